/-! ===== LAYER 2: make and lay; layout ===== -/
section Layout
variable {wh wm : rhW}
/-- blocks of a page laid out, on both sides -/
def LyB (Mh Mm : rhM) (x p : Int) : Prop := Mh (x + 9) 1 = Mm 24 p ∧ (0 ≤ Mm 24 p ∧ Mm 24 p ≤ 20) ∧ ∀ i, 0 ≤ i → i < Mm 24 p → Mh (x + 9 + 1) i = Mm 27 (20 * p + i) ∧ Mh (x + 9 + 2) i = Mm 28 (20 * p + i) ∧ Mh (x + 9 + 3) i = Mm 29 (20 * p + i) ∧ Mh (x + 9 + 4) i = Mm 30 (20 * p + i) ∧ Mh (x + 9 + 5) i = Mm 31 (20 * p + i) ∧ Mh (x + 9 + 6) i = Mm 32 (20 * p + i) ∧ (0 ≤ Mm 27 (20 * p + i) ∧ Mm 27 (20 * p + i) < Mm 29 (20 * p + i) ∧ Mm 29 (20 * p + i) ≤ 128) ∧ (0 ≤ Mm 28 (20 * p + i) ∧ Mm 28 (20 * p + i) < Mm 30 (20 * p + i) ∧ Mm 30 (20 * p + i) ≤ 96)
def LyL (Mh Mm : rhM) (x p : Int) : Prop := Mh (x + 9) 10 = Mm 25 p ∧ (0 ≤ Mm 25 p ∧ Mm 25 p ≤ 60) ∧ ∀ l, 0 ≤ l → l < Mm 25 p → LnR Mh Mm x p l
def LyW (Mh Mm : rhM) (x p : Int) : Prop := ∃ tot, (0 ≤ tot ∧ tot ≤ 300) ∧ WdR (Mh (x + 5)) (Mh (x + 6)) (Mh (x + 7)) (Mh (x + 8)) Mh Mm x p (Mh x 6) (Mm 4 p) (Mm 5 p) (Mm 25 p) tot 300 ∧ (∀ q, 0 ≤ q → q < tot → (0 ≤ Mh (x + 9 + 15) q ∧ Mh (x + 9 + 15) q < Mh x 6)) ∧ ∀ u u' u'', 0 ≤ u → u ≤ u' → u' ≤ u'' → u'' < Mm 25 p → Mh (x + 9 + 9) u = Mh (x + 9 + 9) u'' → Mh (x + 9 + 9) u' = Mh (x + 9 + 9) u
def Lyt (Mh Mm : rhM) (x p : Int) : Prop := Mh (x + 9) 0 = Mm 23 p ∧ (Mm 23 p = 0 ∨ Mm 23 p = 1) ∧ (Mm 23 p ≠ 0 → Mh x 4 ≠ 0 ∧ LyB Mh Mm x p ∧ LyL Mh Mm x p ∧ LyW Mh Mm x p)
abbrev Hly (x c j : Int) : Prop := (c = 10 ∧ j = 4) ∨ c = 8 ∨ c = 9 ∨ (11 ≤ c ∧ c ≤ 14) ∨ (x + 9 ≤ c ∧ c ≤ x + 36)
abbrev Gly (p c j : Int) : Prop := (c = 0 ∧ (j = 17 ∨ j = 18 ∨ j = 19 ∨ j = 31 ∨ j = 70 ∨ j = 73)) ∨ c = 7 ∨ (9 ≤ c ∧ c ≤ 11) ∨ (15 ≤ c ∧ c ≤ 22) ∨ (23 ≤ c ∧ c ≤ 26 ∧ j = p) ∨ (27 ≤ c ∧ c ≤ 32 ∧ 20 * p ≤ j ∧ j < 20 * p + 20) ∨ (33 ≤ c ∧ c ≤ 38 ∧ 60 * p ≤ j ∧ j < 60 * p + 60) ∨ (39 ≤ c ∧ c ≤ 45 ∧ 80 * p ≤ j ∧ j < 80 * p + 80) ∨ (c = 46 ∧ 300 * p ≤ j ∧ j < 300 * p + 300) ∨ (47 ≤ c ∧ c ≤ 55)
theorem Pq.box {W H f l tp r b i : Int} {lab : Int → Int} (hW : 0 < W) (h : Pq W (W * H) lab i f l tp r b) : (0 ≤ l ∧ l < r ∧ r ≤ W) ∧ (0 ≤ tp ∧ tp < b ∧ b ≤ H) ∧ (0 ≤ f ∧ f < W * H) := by
  obtain ⟨⟨f0, f1⟩, h2, ⟨j1, a0, a1, a2⟩, ⟨j2, b0, b1, b2⟩, ⟨j3, c0, c1, c2⟩, h6⟩ := h
  have d1 := dm_b hW a0.1 a0.2
  have d2 := dm_b hW b0.1 b0.2
  have d3 := dm_b hW c0.1 c0.2
  have d4 := dm_b hW f0.1 f0.2
  have e := h2 f f0 f1
  omega
theorem colf_01 {a b W H : Int} {g : Int → Int → Int} (h : ∀ u v, g u v = 0 ∨ g u v = 1) (u v : Int) : colf b H (rowf a W g) u v = 0 ∨ colf b H (rowf a W g) u v = 1 := flp_01 (fun v => flp_01 (fun u => h u v) _ _) _ _
/-- where each piece lies -/
theorem h_blk (hh : rh_hs wh) {x n np : Int} (hx : rh_bl wh 0 x 0) (hy : rh_bl wh 1 (x + 9) 0) (hx2 : 100 ≤ x) (hnp : np ≤ 300) : ∀ (m : Nat) (k : Int) (M : rhM), k + m = np → 0 ≤ k → M x 6 = np → M (x + 9) 1 = n → (∀ i, 0 ≤ i → i < np → 0 ≤ M (x + 3) i ∧ M (x + 3) i < 6144) → ∃ M', eS wh YX30_make 6 54 [(0, 2, x + 9), (1, 2, x), (5, 2, 10), (6, 0, k)] [] M 117 [(0, 2, x + 9), (1, 2, x), (6, 0, 0)] [] M' ∧ frx (fun c j => (c = x + 9 + 24 ∨ c = x + 9 + 23) ∧ k ≤ j) M M' ∧ ∀ i, k ≤ i → i < np → M' (x + 9 + 24) i = (if M 11 (M (x + 3) i) < n then M 11 (M (x + 3) i) else -1) ∧ M' (x + 9 + 23) i = -1
  | 0 => fun k M hk k0 h6 h1 h3 => by
    refine ⟨M, eS.of (fun P HP => ?_), frx.rf, fun i i0 i1 => by omega⟩
    refine rh1.of (rX30_make_54 hh _ _ _ _ hy hx ?_)
    rw [h6]
    exact ⟨fun z => by omega, fun _ => HP⟩
  | m + 1 => fun k M hk k0 h6 h1 h3 => by
    have q := h3 k k0 (by omega)
    obtain ⟨M', e, f, h⟩ := h_blk hh hx hy hx2 hnp m (k + 1) (rh_set (rh_set M (x + 9 + 24) k (rh_if (M 11 (M (x + 3) k) < n) (M 11 (M (x + 3) k)) (-1))) (x + 9 + 23) k (-1)) (by omega) (by omega) (by rw [rh_set_a (by omega), rh_set_a (by omega), h6]) (by rw [rh_set_a (by omega), rh_set_a (by omega), h1]) (fun i i0 i1 => by rw [rh_set_a (by omega), rh_set_a (by omega)]; exact h3 i i0 i1)
    refine ⟨M', eS.of (fun P HP => ?_), ?_, fun i i0 i1 => ?_⟩
    · refine rh1.of (rX30_make_54 hh _ _ _ _ hy hx ?_)
      rw [h6, h1]
      refine ⟨fun _ => ⟨⟨by omega, by omega⟩, q, ?_⟩, fun z => by omega⟩
      rintro _ rfl _ rfl
      exact ⟨⟨by omega, by omega⟩, ⟨by omega, by omega⟩, ⟨by omega, by omega⟩, rh1.s e HP⟩
    · have f0 : frx (fun c j => (c = x + 9 + 24 ∨ c = x + 9 + 23) ∧ k ≤ j) M (rh_set (rh_set M (x + 9 + 24) k (rh_if (M 11 (M (x + 3) k) < n) (M 11 (M (x + 3) k)) (-1))) (x + 9 + 23) k (-1)) := (frx.rf.st (by omega)).st (by omega)
      exact f0.tr (f.w (fun c j z => by omega))
    · by_cases z : i = k
      · rw [z, f _ _ (by omega), f _ _ (by omega), rh_set_a (by omega), rh_set_s, rh_set_s, rh_ifd]
        exact ⟨rfl, rfl⟩
      · have := h i (by omega) i1
        rwa [rh_set_a (by omega), rh_set_a (by omega), rh_set_a (by omega), rh_set_a (by omega)] at this
theorem m_copy (hm : rh_ms wm) {p W H : Int} (hN : W * H ≤ 6144) : ∀ (m : Nat) (k : Int) (M : rhM), k + m = W * H → 0 ≤ k → M 0 17 = W → M 0 18 = H → ∃ M', eS wm YX32_lay 5 24 [(0, 2, 0), (1, 0, p), (4, 0, k)] [] M 60 [(0, 2, 0), (1, 0, p)] [(0, p), (2, 0)] M' ∧ frx (fun c j => c = 7 ∧ k ≤ j) M M' ∧ ∀ i, k ≤ i → i < W * H → M' 7 i = M 9 i
  | 0 => fun k M hk k0 h6 h1 => by
    refine ⟨M, eS.of (fun P HP => ?_), frx.rf, fun i i0 i1 => by omega⟩
    refine rh1.of (rX32_lay_24 hm _ _ _ ?_)
    rw [h6, h1]
    exact ⟨⟨by omega, by omega⟩, fun z => by omega, fun _ => HP⟩
  | m + 1 => fun k M hk k0 h6 h1 => by
    obtain ⟨M', e, f, h⟩ := m_copy hm hN m (k + 1) (rh_set M 7 k (M 9 k)) (by omega) (by omega) (by rw [rh_set_a (by omega), h6]) (by rw [rh_set_a (by omega), h1])
    refine ⟨M', eS.of (fun P HP => ?_), ?_, fun i i0 i1 => ?_⟩
    · refine rh1.of (rX32_lay_24 hm _ _ _ ?_)
      rw [h6, h1]
      exact ⟨⟨by omega, by omega⟩, fun _ => ⟨⟨by omega, by omega⟩, ⟨by omega, by omega⟩, ⟨by omega, by omega⟩, rh1.s e HP⟩, fun z => by omega⟩
    · have f0 : frx (fun c j => c = 7 ∧ k ≤ j) M (rh_set M 7 k (M 9 k)) := frx.rf.st (by omega)
      exact f0.tr (f.w (fun c j z => by omega))
    · by_cases z : i = k
      · rw [z, f _ _ (by omega), rh_set_s]
      · have := h i (by omega) i1
        rwa [rh_set_a (by omega)] at this
theorem m_blk (hm : rh_ms wm) {p n np : Int} (hp : 0 ≤ p ∧ p < 8) (hnp : np ≤ 300) : ∀ (m : Nat) (k : Int) (M : rhM), k + m = np → 0 ≤ k → M 0 31 = np → M 24 p = n → (∀ i, 0 ≤ i → i < np → 0 ≤ M 22 i ∧ M 22 i < 6144) → ∃ M', eS wm YX32_lay 5 66 [(0, 2, 0), (1, 0, p), (4, 0, k)] [] M 141 [(0, 2, 0), (1, 0, p), (4, 0, 0)] [] M' ∧ frx (fun c j => (c = 48 ∧ k ≤ j) ∨ (c = 25 ∧ j = p) ∨ (c = 26 ∧ j = p) ∨ (c = 0 ∧ j = 73)) M M' ∧ M' 25 p = 0 ∧ M' 26 p = 0 ∧ M' 0 73 = 0 ∧ ∀ i, k ≤ i → i < np → M' 48 i = if M 7 (M 22 i) < n then M 7 (M 22 i) else -1
  | 0 => fun k M hk k0 h6 h1 h3 => by
    refine ⟨rh_set (rh_set (rh_set M 25 p 0) 26 p 0) 0 73 0, eS.of (fun P HP => ?_), ((frx.rf.st (by omega)).st (by omega)).st (by omega), ?_, ?_, rh_set_s _ _ _ _, fun i i0 i1 => by omega⟩
    · refine rh1.of (rX32_lay_66 hm _ _ _ ?_)
      rw [h6]
      exact ⟨fun z => by omega, fun _ => ⟨hp, hp, HP⟩⟩
    · rw [rh_set_a (by omega), rh_set_a (by omega), rh_set_s]
    · rw [rh_set_a (by omega), rh_set_s]
  | m + 1 => fun k M hk k0 h6 h1 h3 => by
    have q := h3 k k0 (by omega)
    obtain ⟨M', e, f, d1, d2, d3, h⟩ := m_blk hm hp hnp m (k + 1) (rh_set M 48 k (rh_if (M 7 (M 22 k) < n) (M 7 (M 22 k)) (-1))) (by omega) (by omega) (by rw [rh_set_a (by omega), h6]) (by rw [rh_set_a (by omega), h1]) (fun i i0 i1 => by rw [rh_set_a (by omega)]; exact h3 i i0 i1)
    refine ⟨M', eS.of (fun P HP => ?_), ?_, d1, d2, d3, fun i i0 i1 => ?_⟩
    · refine rh1.of (rX32_lay_66 hm _ _ _ ?_)
      rw [h6, h1]
      refine ⟨fun _ => ⟨⟨by omega, by omega⟩, q, ?_⟩, fun z => by omega⟩
      rintro _ rfl
      refine ⟨hp, ?_⟩
      rintro _ rfl
      exact ⟨⟨by omega, by omega⟩, ⟨by omega, by omega⟩, rh1.s e HP⟩
    · have f0 : frx (fun c j => (c = 48 ∧ k ≤ j) ∨ (c = 25 ∧ j = p) ∨ (c = 26 ∧ j = p) ∨ (c = 0 ∧ j = 73)) M (rh_set M 48 k (rh_if (M 7 (M 22 k) < n) (M 7 (M 22 k)) (-1))) := frx.rf.st (by omega)
      exact f0.tr (f.w (fun c j z => by omega))
    · by_cases z : i = k
      · rw [z, f _ _ (by omega), rh_set_s, rh_ifd]
      · have := h i (by omega) i1
        rwa [rh_set_a (by omega), rh_set_a (by omega)] at this
theorem hl_1 {x c j : Int} (h : c = x + 9 ∧ j = 0) : Hly x c j := .inr (.inr (.inr (.inr (by omega))))
theorem hl_2 {x c j : Int} (h : c = 8 ∨ c = 9) : Hly x c j := .inr (h.elim .inl (fun h => .inr (.inl h)))
theorem hl_3 {x c j : Int} (h : (c = 10 ∧ j = 4) ∨ c = 11 ∨ c = 12 ∨ c = 13 ∨ c = 14) : Hly x c j := h.elim .inl (fun h => .inr (.inr (.inr (.inl (by omega)))))
theorem hl_4 {x c j : Int} (h : x + 9 ≤ c ∧ c ≤ x + 36) : Hly x c j := .inr (.inr (.inr (.inr h)))
theorem gl_1 {p c j : Int} (h : (c = 0 ∧ (j = 17 ∨ j = 18)) ∨ c = 11) : Gly p c j := h.elim (fun h => .inl ⟨h.1, h.2.elim .inl (fun h => .inr (.inl h))⟩) (fun h => .inr (.inr (.inl (by omega))))
theorem gl_3 {p c j : Int} (h : Gbl p c j) : Gly p c j := by
  rcases h with h | h | h | h | h
  · exact .inl ⟨h.1, .inr (.inr (.inl h.2))⟩
  · exact .inr (.inr (.inl (by omega)))
  · exact .inr (.inr (.inl (by omega)))
  · exact .inr (.inr (.inr (.inr (.inl ⟨by omega, by omega, h.2⟩))))
  · exact .inr (.inr (.inr (.inr (.inr (.inl ⟨by omega, by omega, h.2⟩)))))
theorem gl_4 {p c j : Int} (h : (c = 31 ∧ 20 * p ≤ j ∧ j < 20 * p + 20) ∨ c = 47) : Gly p c j := by
  rcases h with h | h
  · exact .inr (.inr (.inr (.inr (.inr (.inl ⟨by omega, by omega, h.2⟩)))))
  · exact .inr (.inr (.inr (.inr (.inr (.inr (.inr (.inr (.inr (by omega)))))))))
theorem gl_6 {p c j : Int} (h : (c = 0 ∧ (j = 17 ∨ j = 18 ∨ j = 19 ∨ j = 31)) ∨ (9 ≤ c ∧ c ≤ 11) ∨ (15 ≤ c ∧ c ≤ 22)) : Gly p c j := by
  rcases h with h | h | h
  · exact .inl ⟨h.1, by omega⟩
  · exact .inr (.inr (.inl h))
  · exact .inr (.inr (.inr (.inl h)))
theorem gl_7 {p k c j : Int} (h : (c = 48 ∧ k ≤ j) ∨ (c = 25 ∧ j = p) ∨ (c = 26 ∧ j = p) ∨ (c = 0 ∧ j = 73)) : Gly p c j := by
  rcases h with h | h | h | h
  · exact .inr (.inr (.inr (.inr (.inr (.inr (.inr (.inr (.inr (by omega)))))))))
  · exact .inr (.inr (.inr (.inr (.inl ⟨by omega, by omega, h.2⟩))))
  · exact .inr (.inr (.inr (.inr (.inl ⟨by omega, by omega, h.2⟩))))
  · exact .inl ⟨h.1, by omega⟩
theorem gl_8 {p l l' b c j : Int} (h : Glb p l l' b c j) (hb : 0 ≤ b ∧ b < 20) (hl : 0 ≤ l) (hl' : l' ≤ 60) : Gly p c j := by
  rcases h with h | h | h | h | h | h | h | h
  · exact .inl ⟨h.1, by omega⟩
  · exact .inr (.inr (.inr (.inr (.inl ⟨by omega, by omega, h.2⟩))))
  · exact .inr (.inr (.inr (.inr (.inl ⟨by omega, by omega, h.2⟩))))
  · exact .inr (.inr (.inr (.inr (.inr (.inl ⟨by omega, by omega, by omega, by omega⟩)))))
  · exact .inr (.inr (.inr (.inr (.inr (.inr (.inl ⟨h.1, h.2.1, by omega, by omega⟩))))))
  · exact .inr (.inr (.inr (.inr (.inr (.inr (.inr (.inl h)))))))
  · exact .inr (.inr (.inr (.inr (.inr (.inr (.inr (.inr (.inl h))))))))
  · exact .inr (.inr (.inr (.inr (.inr (.inr (.inr (.inr (.inr (by omega)))))))))
/-- boxes of blocks: where they begin does not matter -/
theorem bx_eq {W H i : Int} {lab labm : Int → Int} (hW0 : 0 < W) (hWb : W ≤ 128) (hHb : H ≤ 96) (hN0 : 0 ≤ W * H) (labs : ∀ k, 0 ≤ k ∧ k < W * H → lab k = labm k) {d : Int} (d0 : 0 ≤ d ∧ d < W * H) (d1 : labm d = i) :
    lst (· % W) labm i 999 (W * H).toNat = lst (· % W) lab i 128 (W * H).toNat ∧ lst (· / W) labm i 999 (W * H).toNat = lst (· / W) lab i 96 (W * H).toNat ∧ gst (fun k => k % W + 1) labm i 0 (W * H).toNat = gst (fun k => k % W + 1) lab i 0 (W * H).toNat ∧ gst (fun k => k / W + 1) labm i 0 (W * H).toNat = gst (fun k => k / W + 1) lab i 0 (W * H).toNat := by
  have eN : ((W * H).toNat : Int) = W * H := (by omega)
  have cg : ∀ j : Int, 0 ≤ j → j < (W * H).toNat → (labm j = i ↔ lab j = i) := fun j j0 j1 => by rw [labs j ⟨j0, (by omega)⟩]
  rw [← labs d d0] at d1
  refine ⟨?_, ?_, gst_cg _ (fun j j0 j1 => ⟨cg j j0 j1, fun _ => rfl⟩), gst_cg _ (fun j j0 j1 => ⟨cg j j0 j1, fun _ => rfl⟩)⟩
  · rw [lst_cg _ (fun j j0 j1 => ⟨cg j j0 j1, fun _ => rfl⟩)]
    exact lst_one (j := d) ⟨d0.1, by rw [eN]; exact d0.2⟩ d1 (fun j j0 j1 _ => by have := dm_b hW0 j0 (show j < W * H by omega); omega)
  · rw [lst_cg _ (fun j j0 j1 => ⟨cg j j0 j1, fun _ => rfl⟩)]
    exact lst_one (j := d) ⟨d0.1, by rw [eN]; exact d0.2⟩ d1 (fun j j0 j1 _ => by have := dm_b hW0 j0 (show j < W * H by omega); omega)
theorem bx_b {W H i : Int} {lab : Int → Int} (hW0 : 0 < W) (hWb : W ≤ 128) (hHb : H ≤ 96) (hN0 : 0 ≤ W * H) {d : Int} (d0 : 0 ≤ d ∧ d < W * H) (d1 : lab d = i) :
    (0 ≤ lst (· % W) lab i 128 (W * H).toNat ∧ lst (· % W) lab i 128 (W * H).toNat < gst (fun k => k % W + 1) lab i 0 (W * H).toNat ∧ gst (fun k => k % W + 1) lab i 0 (W * H).toNat ≤ 128) ∧ (0 ≤ lst (· / W) lab i 96 (W * H).toNat ∧ lst (· / W) lab i 96 (W * H).toNat < gst (fun k => k / W + 1) lab i 0 (W * H).toNat ∧ gst (fun k => k / W + 1) lab i 0 (W * H).toNat ≤ 96) := by
  have dd := dm_b hW0 d0.1 d0.2
  have v1 : lst (· % W) lab i 128 (W * H).toNat ≤ d % W := (lst_s (g := (· % W)) (lab := lab) (i := i) (a := 128) (W * H).toNat).2.1 d d0.1 (by omega) d1
  have v2 : lst (· / W) lab i 96 (W * H).toNat ≤ d / W := (lst_s (g := (· / W)) (lab := lab) (i := i) (a := 96) (W * H).toNat).2.1 d d0.1 (by omega) d1
  have v3 : d % W + 1 ≤ gst (fun k => k % W + 1) lab i 0 (W * H).toNat := (gst_s (g := fun k => k % W + 1) (lab := lab) (i := i) (a := 0) (W * H).toNat).2.1 d d0.1 (by omega) d1
  have v4 : d / W + 1 ≤ gst (fun k => k / W + 1) lab i 0 (W * H).toNat := (gst_s (g := fun k => k / W + 1) (lab := lab) (i := i) (a := 0) (W * H).toNat).2.1 d d0.1 (by omega) d1
  have w1 : 0 ≤ lst (· % W) lab i 128 (W * H).toNat := by
    rcases (lst_s (g := (· % W)) (lab := lab) (i := i) (a := 128) (W * H).toNat).2.2 with q | ⟨j, j0, -, q⟩
    · omega
    · rw [q]; exact (dm_b hW0 j0.1 (show j < W * H by omega)).1.1
  have w2 : 0 ≤ lst (· / W) lab i 96 (W * H).toNat := by
    rcases (lst_s (g := (· / W)) (lab := lab) (i := i) (a := 96) (W * H).toNat).2.2 with q | ⟨j, j0, -, q⟩
    · omega
    · rw [q]; exact (dm_b hW0 j0.1 (show j < W * H by omega)).2.1
  have w3 : gst (fun k => k % W + 1) lab i 0 (W * H).toNat ≤ 128 := by
    rcases (gst_s (g := fun k => k % W + 1) (lab := lab) (i := i) (a := 0) (W * H).toNat).2.2 with q | ⟨j, j0, -, q⟩
    · omega
    · rw [q]; have := dm_b hW0 j0.1 (show j < W * H by omega); omega
  have w4 : gst (fun k => k / W + 1) lab i 0 (W * H).toNat ≤ 96 := by
    rcases (gst_s (g := fun k => k / W + 1) (lab := lab) (i := i) (a := 0) (W * H).toNat).2.2 with q | ⟨j, j0, -, q⟩
    · omega
    · rw [q]; have := dm_b hW0 j0.1 (show j < W * H by omega); omega
  exact ⟨⟨w1, (by omega), w3⟩, w2, (by omega), w4⟩
/-- make and lay up to the order of blocks -/
theorem c_make1 (hh : rh_hs wh) (hm : rh_ms wm) {x p a b W H : Int} (hx : rh_bl wh 0 x 0) (hy : rh_bl wh 1 (x + 9) 0) (hx2 : 100 ≤ x) (hp : 0 ≤ p ∧ p < 8) (ha : 1 ≤ a ∧ a ≤ 60) (hb : 1 ≤ b ∧ b ≤ 60) {Mh Mm : rhM} (R0 : Rp Mh Mm x p) (hWW : Mm 4 p = W) (hHH : Mm 5 p = H) (hW0 : 0 < W) :
    ∃ (M4 N4 : rhM) (n : Int), eS wh YX30_make 6 0 (rh_lo 0 [(2, x + 9), (2, x), (0, a), (0, b), (2, 8), (2, 10)]) [] Mh 54 [(0, 2, x + 9), (1, 2, x), (5, 2, 10), (6, 0, 0)] [] (rh_set (rh_set (rh_set M4 (x + 9) 10 0) (x + 9) 18 0) (x + 9 + 13) 0 0) ∧ eS wm YX32_lay 5 0 (rh_lo 0 [(2, 0), (0, p), (0, a), (0, b)]) [] Mm 24 [(0, 2, 0), (1, 0, p), (4, 0, 0)] [] N4 ∧ frx (Hly x) Mh M4 ∧ frx (Gly p) Mm N4 ∧ (0 ≤ n ∧ n ≤ 20) ∧ (∀ k, 0 ≤ k → k < W * H → M4 11 k = N4 9 k ∧ -1 ≤ N4 9 k) ∧ M4 (x + 9) 0 = 1 ∧ M4 (x + 9) 1 = n ∧ N4 24 p = n ∧ N4 0 17 = W ∧ N4 0 18 = H ∧ (∀ i, 0 ≤ i → i < n → M4 (x + 9 + 1) i = N4 27 (20 * p + i) ∧ M4 (x + 9 + 2) i = N4 28 (20 * p + i) ∧ M4 (x + 9 + 3) i = N4 29 (20 * p + i) ∧ M4 (x + 9 + 4) i = N4 30 (20 * p + i) ∧ (0 ≤ N4 27 (20 * p + i) ∧ N4 27 (20 * p + i) < N4 29 (20 * p + i) ∧ N4 29 (20 * p + i) ≤ 128) ∧ (0 ≤ N4 28 (20 * p + i) ∧ N4 28 (20 * p + i) < N4 30 (20 * p + i) ∧ N4 30 (20 * p + i) ≤ 96)) ∧ (∀ i, 0 ≤ i → i < n → M4 (x + 9 + 6) i = 0) ∧ (∀ i, 0 ≤ i → i < n → N4 32 (20 * p + i) = 0) ∧ Ordd M4 N4 (x + 9) p n := by
  have R1 := R0
  obtain ⟨a1, a2, a3, a4, a5, a6, a7, a8, a9, a10⟩ := R1
  rw [hWW] at a1 a3 a4 a7 a8 a9 a10
  rw [hHH] at a2 a5 a6 a7 a8 a9 a10
  replace a10 := Hid.mk a10
  clear R0
  generalize hM1 : rh_set Mh (x + 9) 0 1 = Ma
  have f1 : frx (fun c j => c = x + 9 ∧ j = 0) Mh Ma := by rw [← hM1]; exact frx.rf.st ⟨rfl, rfl⟩
  have m10 : Ma (x + 9) 0 = 1 := by rw [← hM1, rh_set_s]
  obtain ⟨r1, M1, E1, -, f2, s1, s2, s3⟩ := c_smearH hh (p := a) (q := b) (W := W) (H := H) hx (by omega) Ma (by rw [f1 _ _ (by omega), a1]) (by rw [f1 _ _ (by omega), a2]) hW0 a4 a5 a6 a7 a8 ha hb (g := fun u v => if Mm 3 (6144 * p + (W * v + u)) < 128 then 1 else 0) (fun u v u0 u1 v0 v1 => by
    have := a10.out (W * v + u) (by have := Int.mul_nonneg (show 0 ≤ W by omega) v0; omega) (mul_lt u0 u1 v0 v1)
    rw [f1.cell (a := x + 1) (fun j => (by omega)), this.1])
  generalize hgg : colf b H (rowf a W (fun u v => if Mm 3 (6144 * p + (W * v + u)) < 128 then (1 : Int) else 0)) = gg at *
  obtain ⟨r2, M2, E2, -, f3, PT⟩ := c_find hh (x := 8) (b := 1) (nb := 8) (W := W) (H := H) (hs_sh hh) (fun a a0 a1 => by omega) M1 s1 s2 (by omega) a4 a6 a7 a8 (.inr rfl)
  obtain ⟨LbH, cb, -⟩ := PT
  have LbH1 := LbH.eight (E' := True) (by simp)
  have hcn := LbH1.2.2.2.2.2
  have F2x : ∀ j, M2 x j = Mh x j := fun j => by rw [f3 x j (by omega), f2 x j (by omega), f1 x j (by omega)]
  obtain ⟨r3, M3, E3, -, f4, b1, b2⟩ := c_findBlocksH hh (W := W) (H := H) hx hy rfl hx2 M2 (by rw [F2x, a1]) (by rw [F2x, a2]) hW0 a4 a6 a7 a8 hcn (fun k k0 k1 => (LbH1.1 k ⟨k0, k1⟩).2.1)
  obtain ⟨r4, N1, K1, -, g1, n1, n2, n3⟩ := c_inkOf hm hp Mm (by rw [hWW, hHH]; exact a7) (by rw [hWW, hHH]; exact a8)
  rw [hWW] at n1
  rw [hHH] at n2
  obtain ⟨r5, N2, K2, -, g2, n4⟩ := c_smearM hm (p := a) (q := b) (W := W) (H := H) N1 n1 n2 hW0 a4 a5 a6 a7 a8 ha hb (g := fun u v => if Mm 3 (6144 * p + (W * v + u)) < 128 then 1 else 0) (fun u v u0 u1 v0 v1 => by
    rw [n3 (W * v + u) ⟨by have := Int.mul_nonneg (show 0 ≤ W by omega) v0; omega, by rw [hWW, hHH]; exact mul_lt u0 u1 v0 v1⟩])
  rw [hgg] at n4
  obtain ⟨r6, N3, K3, -, g3, LbM, cbm, n24, bxm⟩ := c_findBlocksM hm (W := W) (H := H) hp N2 (by rw [g2 _ _ (by omega), n1]) (by rw [g2 _ _ (by omega), n2]) hW0 a4 a6 a7 a8
  -- labels agree
  have LbH2 : Lb W (W * H) (fun k => N2 11 k = 1) True (M2 11) (M2 10 4) := LbH1.cols (fun k hk => by
    have db := dm_b hW0 hk.1 hk.2
    have e0 := dm k W
    have e1 := s3 (k % W) (k / W) db.1.1 db.1.2 db.2.1 db.2.2
    have e2 := n4 (k % W) (k / W) db.1.1 db.1.2 db.2.1 db.2.2
    rw [← e0] at e1 e2
    have e3 := colf_01 (a := a) (b := b) (W := W) (H := H) (g := fun u v => if Mm 3 (6144 * p + (W * v + u)) < 128 then (1 : Int) else 0) (fun u v => by by_cases z : Mm 3 (6144 * p + (W * v + u)) < 128; exact .inr (if_pos z); exact .inl (if_neg z)) (k % W) (k / W)
    rw [hgg] at e3
    show (rh_if (rh_and (M1 (8 + 1) k) 255 < 128) (1 : Int) 0 = 1) ↔ N2 11 k = 1
    rw [show (8 : Int) + 1 = 9 from rfl, e1, e2]
    rcases e3 with e3 | e3
    · rw [e3]
      exact ⟨fun z => absurd z (by rw [rh_if_f (by decide)]; decide), fun z => absurd z (by decide)⟩
    · rw [e3]
      exact ⟨fun _ => rfl, fun _ => by rw [rh_if_t (by decide)]⟩)
  have labs := LbH2.one LbM
  have cnts := LbH2.nums LbM
  rw [cnts] at b1 b2
  have hc0 := LbM.2.2.2.2.2
  have hrep := LbM.2.2.2.2.1
  have hran := LbM.1
  generalize hnn : min20 (N3 0 19) = n at *
  have nb : 0 ≤ n ∧ n ≤ 20 ∧ n ≤ N3 0 19 := by rw [← hnn]; unfold min20; split <;> omega
  generalize hlab : M2 11 = lab at *
  -- boxes of blocks
  have hBh : BxH M3 (x + 9) n (fun i => lst (· % W) lab i 128 (W * H).toNat) (fun i => lst (· / W) lab i 96 (W * H).toNat) (fun i => gst (fun k => k % W + 1) lab i 0 (W * H).toNat) (fun i => gst (fun k => k / W + 1) lab i 0 (W * H).toNat) := fun i i0 i1 => by
    obtain ⟨q1, q2, q3, q4, -⟩ := b2 i i0 i1
    exact ⟨q1, q2, q3, q4⟩
  have hBm : BxN N3 p n (fun i => lst (· % W) lab i 128 (W * H).toNat) (fun i => lst (· / W) lab i 96 (W * H).toNat) (fun i => gst (fun k => k % W + 1) lab i 0 (W * H).toNat) (fun i => gst (fun k => k / W + 1) lab i 0 (W * H).toNat) := fun i i0 i1 => by
    obtain ⟨q1, q2, q3, q4, -⟩ := bxm i i0 i1
    obtain ⟨d, d0, d1⟩ := hrep i i0 (by omega)
    rw [q1, q2, q3, q4]
    exact bx_eq hW0 a4 a6 a7 labs d0 d1
  have hbb : Bxb (fun i => lst (· % W) lab i 128 (W * H).toNat) (fun i => lst (· / W) lab i 96 (W * H).toNat) (fun i => gst (fun k => k % W + 1) lab i 0 (W * H).toNat) (fun i => gst (fun k => k / W + 1) lab i 0 (W * H).toNat) n := fun i i0 i1 => by
    obtain ⟨d, d0, d1⟩ := hrep i i0 (by omega)
    rw [← labs d d0] at d1
    exact bx_b hW0 a4 a6 a7 d0 d1
  have n24' : N3 24 p = n := n24
  obtain ⟨r7, M4, r8, N4, E4, K4, f5, g4, OD1, OD2⟩ := c_order hh hm hy hp M3 N3 b1 n24' nb.1 nb.2.1 hBh hBm hbb
  replace hBh := Hid.mk hBh
  replace hBm := Hid.mk hBm
  replace hbb := Hid.mk hbb
  replace labs := Hid.mk labs
  replace hran := Hid.mk hran
  replace hrep := Hid.mk hrep
  replace b2 := Hid.mk b2
  replace bxm := Hid.mk bxm
  replace OD1 := Hid.mk OD1
  replace OD2 := Hid.mk OD2
  clear LbH LbH1 LbH2 LbM s3 n3 n4
  -- frames so far
  have FA : frx (Hly x) Mh M4 := ((((f1.w (fun c j h => hl_1 h)).tr (f2.w (fun c j h => hl_2 h))).tr (f3.w (fun c j h => hl_3 h))).tr (f4.w (fun c j h => hl_4 (by omega)))).tr (f5.w (fun c j h => hl_4 (by omega)))
  have GA : frx (Gly p) Mm N4 := (((g1.w (fun c j h => gl_1 h)).tr (g2.w (fun c j h => gl_1 (.inr h)))).tr (g3.w (fun c j h => gl_3 h))).tr (g4.w (fun c j h => gl_4 h))
  have q11 : M4 11 = lab := by rw [f5.cell (fun j => (by omega)), f4.cell (fun j => (by omega)), hlab]
  have q9 : N4 9 = N3 9 := g4.cell (fun j => (by omega))
  have q0 : M4 (x + 9) 0 = 1 := by rw [f5 _ _ (by omega), f4 _ _ (by omega), f3 _ _ (by omega), f2 _ _ (by omega), m10]
  have q1 : M4 (x + 9) 1 = n := by rw [f5 _ _ (by omega), b1]
  have p24 : N4 24 p = n := by rw [g4 _ _ (by omega), n24']
  have p17 : N4 0 17 = W := by rw [g4 _ _ (by omega), g3 _ _ (by omega), g2 _ _ (by omega), n1]
  have p18 : N4 0 18 = H := by rw [g4 _ _ (by omega), g3 _ _ (by omega), g2 _ _ (by omega), n2]
  have bxh : ∀ i, 0 ≤ i → i < n → M4 (x + 9 + 1) i = N4 27 (20 * p + i) ∧ M4 (x + 9 + 2) i = N4 28 (20 * p + i) ∧ M4 (x + 9 + 3) i = N4 29 (20 * p + i) ∧ M4 (x + 9 + 4) i = N4 30 (20 * p + i) ∧ (0 ≤ N4 27 (20 * p + i) ∧ N4 27 (20 * p + i) < N4 29 (20 * p + i) ∧ N4 29 (20 * p + i) ≤ 128) ∧ (0 ≤ N4 28 (20 * p + i) ∧ N4 28 (20 * p + i) < N4 30 (20 * p + i) ∧ N4 30 (20 * p + i) ≤ 96) := fun i i0 i1 => by
    obtain ⟨u1, u2, u3, u4⟩ := hBh.out i i0 i1
    obtain ⟨v1, v2, v3, v4⟩ := hBm.out i i0 i1
    have w := hbb.out i i0 i1
    rw [f5 _ _ (by omega), f5 _ _ (by omega), f5 _ _ (by omega), f5 _ _ (by omega), g4 _ _ (by omega), g4 _ _ (by omega), g4 _ _ (by omega), g4 _ _ (by omega), u1, u2, u3, u4, v1, v2, v3, v4]
    exact ⟨rfl, rfl, rfl, rfl, w⟩
  have z6h : ∀ i, 0 ≤ i → i < n → M4 (x + 9 + 6) i = 0 := fun i i0 i1 => by rw [f5 _ _ (by omega)]; exact (b2.out i i0 i1).2.2.2.2
  have z6m : ∀ i, 0 ≤ i → i < n → N4 32 (20 * p + i) = 0 := fun i i0 i1 => by rw [g4 _ _ (by omega)]; exact (bxm.out i i0 i1).2.2.2.2
  refine ⟨M4, N4, n, eS.of (fun P HP => ?_), eS.of (fun P HP => ?_), FA, GA, ⟨nb.1, nb.2.1⟩, fun k k0 k1 => ?_, q0, q1, p24, p17, p18, bxh, z6h, z6m, ⟨OD1.out, OD2.out⟩⟩
  · refine rh1.of (rX30_make_0 hh _ _ _ _ _ _ hy hx (hs_sh hh) ?_)
    rw [hM1]
    refine ⟨⟨by omega, by omega⟩, rh1.s (vX30_make_10 E1 (LE0 rfl)) ?_⟩
    refine rh1.of (rX30_make_13 hh _ _ _ _ hy hx (hs_sh hh) ?_)
    refine rh1.s (vX30_make_20 hh E2 (LE0 rfl)) ?_
    refine rh1.of (rX30_make_23 hh _ _ _ hy hx ?_)
    refine rh1.s (vX30_make_27 hy E3 (LE0 rfl)) ?_
    refine rh1.of (rX30_make_30 hh _ _ _ hy hx ?_)
    refine rh1.s (vX30_make_31 hy E4 (LE0 rfl)) ?_
    refine rh1.of (rX30_make_34 hh _ _ _ hy hx ?_)
    exact HP
  · refine rh1.of (rX32_lay_0 hm _ _ _ _ ?_)
    refine rh1.s (vX32_lay_2 hm K1 (LE0 rfl)) ?_
    refine rh1.of (rX32_lay_5 hm _ _ _ _ ?_)
    refine rh1.s (vX32_lay_8 hm K2 (LE0 rfl)) ?_
    refine rh1.of (rX32_lay_11 hm _ _ ?_)
    refine rh1.s (vX32_lay_13 hm K3 (LE0 rfl)) ?_
    refine rh1.of (rX32_lay_16 hm _ _ ?_)
    refine rh1.s (vX32_lay_18 hm K4 (LE0 rfl)) ?_
    refine rh1.of (rX32_lay_21 hm _ _ ?_)
    exact HP
  · rw [q11, q9, labs.out k ⟨k0, k1⟩]
    exact ⟨rfl, (hran.out k ⟨k0, k1⟩).2.1⟩
theorem c_make (hh : rh_hs wh) (hm : rh_ms wm) {p a b : Int} (hp : 0 ≤ p ∧ p < 8) (ha : 1 ≤ a ∧ a ≤ 60) (hb : 1 ≤ b ∧ b ≤ 60) {Mh Mm : rhM} (R0 : Rp Mh Mm (251 + 39 * p) p) (hW0 : 0 < Mm 4 p) (h4 : Mh (251 + 39 * p) 4 ≠ 0) (S0 : Srch Mh (251 + 39 * p)) :
    rC2 wh YX30_make 6 [(2, 251 + 39 * p + 9), (2, 251 + 39 * p), (0, a), (0, b), (2, 8), (2, 10)] Mh wm YX32_lay 5 [(2, 0), (0, p), (0, a), (0, b)] Mm (fun r M1 r2 M2 => frx (Hly (251 + 39 * p)) Mh M1 ∧ frx (Gly p) Mm M2 ∧ Lyt M1 M2 (251 + 39 * p) p ∧ M2 23 p = 1) := by
  have hx := hs_pg hh hp.1 hp.2
  have hy : rh_bl wh 1 (251 + 39 * p + 9) 0 := by
    have := hs_ly hh hp.1 hp.2
    rwa [show 260 + 39 * p = 251 + 39 * p + 9 by omega] at this
  have hx2 : 100 ≤ 251 + 39 * p := (by omega)
  have hxp : 251 ≤ 251 + 39 * p ∧ 251 + 39 * p ≤ 524 := ⟨by omega, by omega⟩
  generalize hxx : 251 + 39 * p = x at *
  have R1 := R0
  obtain ⟨a1, a2, a3, a4, a5, a6, a7, a8, a9, a10⟩ := R1
  generalize hWW : Mm 4 p = W at *
  generalize hHH : Mm 5 p = H at *
  refine rC2.of (by decide) (LE0 rfl) (by decide) (LE0 rfl) ?_
  generalize hPost : (fun (r : Int) (M1 : rhM) (r2 : Int) (M2 : rhM) => frx (Hly x) Mh M1 ∧ frx (Gly p) Mm M2 ∧ Lyt M1 M2 x p ∧ M2 23 p = 1) = Post
  obtain ⟨M4, N4, n, EH, EM, FA, GA, nb, labs, q0, q1, p24, p17, p18, bxh, z6h, z6m, OD1, OD2⟩ := c_make1 hh hm hx hy hx2 hp ha hb (R0 : Rp Mh Mm x p) hWW hHH hW0
  refine rh2.sl EH (rh2.sr EM ?_)
  replace labs := Hid.mk labs
  replace OD1 := Hid.mk OD1
  replace OD2 := Hid.mk OD2
  replace bxh := Hid.mk bxh
  replace z6h := Hid.mk z6h
  replace z6m := Hid.mk z6m
  replace S0 := Hid.mk S0
  replace R0 := Hid.mk R0
  -- the house: where pieces lie, lines
  have Xc : ∀ c j : Int, x ≤ c → c ≤ x + 8 → M4 c j = Mh c j := fun c j c0 c1 => FA c j (by unfold Hly; omega)
  have S4 : Srch M4 x := S0.out.fx (Xc x 1 (by omega) (by omega)) (Xc x 2 (by omega) (by omega)) (Xc x 6 (by omega) (by omega)) (fun a a0 a1 => funext (fun j => Xc a j (by omega) a1))
  have R4 : Rp M4 Mm x p := R0.out.fx (Xc x 1 (by omega) (by omega)) (Xc x 2 (by omega) (by omega)) (funext (fun j => Xc (x + 1) j (by omega) (by omega))) rfl rfl rfl
  -- the model: pieces
  obtain ⟨N5, K5, g5, c7⟩ := m_copy hm (p := p) a8 (W * H).toNat 0 N4 (by omega) (by omega) p17 p18
  refine rh2.sr K5 ?_
  have G5 : frx (Gly p) Mm N5 := GA.tr (g5.w (fun c j h => .inr (.inl h.1)))
  obtain ⟨r9, N6, K6, -, g6, -, PM⟩ := c_findPieces hm hp N5 (W := W) (H := H) (by rw [G5 4 p (by unfold Gly; omega), hWW]) (by rw [G5 5 p (by unfold Gly; omega), hHH]) (by omega) a4 a6 a7 a8
  refine rh2.sr (vX32_lay_60 hm K6 (LE0 rfl)) ?_
  refine rh2.r (rX32_lay_63 hm _ _ ?_)
  have emc : mcol N5 p = mcol Mm p := by unfold mcol; rw [G5.cell (a := 3) (fun j => by unfold Gly; omega)]
  rw [emc] at PM
  have SP := SrPc R4 S4 (M2 := N6) (by rw [hWW, hHH]; exact PM)
  obtain ⟨e6, npb, -, epc⟩ := SP
  have PMp := PM.2.2.2.2.2
  generalize hnp : N6 0 31 = np at *
  have box : ∀ i, 0 ≤ i → i < np → (0 ≤ N6 16 i ∧ N6 16 i < N6 18 i ∧ N6 18 i ≤ W) ∧ (0 ≤ N6 17 i ∧ N6 17 i < N6 19 i ∧ N6 19 i ≤ H) ∧ (0 ≤ N6 22 i ∧ N6 22 i < W * H) := fun i i0 i1 => ((PMp i i0 i1).2.1).box hW0
  clear PMp PM
  replace box := Hid.mk box
  replace epc := Hid.mk epc
  have G6 : frx (Gly p) Mm N6 := G5.tr (g6.w (fun c j h => gl_6 h))
  obtain ⟨N7, K7, g7, i25, i26, i73, i48⟩ := m_blk hm (n := n) hp npb.2 np.toNat 0 N6 (by omega) (by omega) hnp (by rw [g6 _ _ (by omega), g5 _ _ (by omega), p24]) (fun i i0 i1 => by have := (box.out i i0 i1).2.2; omega)
  refine rh2.sr K7 ?_
  have G7 : frx (Gly p) Mm N7 := G6.tr (g7.w (fun c j h => gl_7 h))
  have hPm : PcN N7 np (N6 16) (N6 17) (N6 18) (N6 19) := ⟨by rw [g7 _ _ (by omega), hnp], fun i _ _ => by rw [g7 16 i (by omega), g7 17 i (by omega), g7 18 i (by omega), g7 19 i (by omega)]; exact ⟨rfl, rfl, rfl, rfl⟩⟩
  have hpb : Pcb (N6 16) (N6 17) (N6 18) (N6 19) np := fun i i0 i1 => by have := box.out i i0 i1; omega
  have hpw : ∀ i, 0 ≤ i → i < np → N6 18 i ≤ W ∧ N6 19 i ≤ H := fun i i0 i1 => by have := box.out i i0 i1; omega
  replace hpw := Hid.mk hpw
  replace hpb := Hid.mk hpb
  generalize hM5 : rh_set (rh_set (rh_set M4 (x + 9) 10 0) (x + 9) 18 0) (x + 9 + 13) 0 0 = M5
  have f6 : frx (fun c j => (c = x + 9 ∧ (j = 10 ∨ j = 18)) ∨ (c = x + 9 + 13 ∧ j = 0)) M4 M5 := by rw [← hM5]; exact ((frx.rf.st (by omega)).st (by omega)).st (by omega)
  have y10 : M5 (x + 9) 10 = 0 := by rw [← hM5, rh_set_a (by omega), rh_set_j (by omega), rh_set_s]
  have y18 : M5 (x + 9) 18 = 0 := by rw [← hM5, rh_set_a (by omega), rh_set_s]
  have y13 : M5 (x + 9 + 13) 0 = 0 := by rw [← hM5, rh_set_s]
  have m6 : M5 x 6 = np := by rw [f6 _ _ (by omega), e6]
  have first : ∀ i, 0 ≤ i → i < np → M5 (x + 3) i = N6 22 i := fun i i0 i1 => by rw [f6 _ _ (by omega)]; exact (epc.out i i0 i1).1
  obtain ⟨M6, E6, f7, bk⟩ := h_blk hh (n := n) hx hy hx2 npb.2 np.toNat 0 M5 (by omega) (by omega) m6 (by rw [f6 _ _ (by omega), q1]) (fun i i0 i1 => by rw [first i i0 i1]; have := (box.out i i0 i1).2.2; omega)
  refine rh2.sl E6 ?_
  have hP6 : PcH M6 x np (N6 16) (N6 17) (N6 18) (N6 19) := ⟨by rw [f7 _ _ (by omega), m6], fun i i0 i1 => by
    obtain ⟨-, -, u1, u2, u3, u4⟩ := epc.out i i0 i1
    rw [f7 _ _ (by omega), f7 _ _ (by omega), f7 _ _ (by omega), f7 _ _ (by omega), f6 _ _ (by omega), f6 _ _ (by omega), f6 _ _ (by omega), f6 _ _ (by omega)]
    exact ⟨u1, u2, u3, u4⟩⟩
  have blk : ∀ i, 0 ≤ i → i < np → M6 (x + 9 + 24) i = N7 48 i ∧ -1 ≤ N7 48 i ∧ N7 48 i < n := fun i i0 i1 => by
    obtain ⟨u1, -⟩ := bk i i0 i1
    have u2 := (box.out i i0 i1).2.2
    have u3 := labs.out (N6 22 i) u2.1 u2.2
    rw [u1, i48 i i0 i1, first i i0 i1, f6.cell (a := 11) (fun j => (by omega)), u3.1, g6 7 _ (by omega), c7 _ u2.1 u2.2]
    refine ⟨rfl, ?_⟩
    split <;> omega
  have wof : ∀ i, 0 ≤ i → i < np → M6 (x + 9 + 23) i = -1 := fun i i0 i1 => (bk i i0 i1).2
  replace blk := Hid.mk blk
  replace wof := Hid.mk wof
  clear bk i48 first
  -- the order
  have o7 : M6 (x + 9 + 7) = M4 (x + 9 + 7) := by rw [f7.cell (fun j => (by omega)), f6.cell (fun j => (by omega))]
  have o31 : ∀ i, 0 ≤ i → i < n → 0 ≤ N4 31 (20 * p + i) ∧ N4 31 (20 * p + i) < n ∧ M6 (x + 9 + 7) (N4 31 (20 * p + i)) = i := fun i i0 i1 => by
    obtain ⟨-, u2, u3, u4⟩ := OD1.out i i0 i1
    rw [o7, (OD2.out _ u2 u3).1]
    exact ⟨u2, u3, u4⟩
  have o47 : ∀ t, 0 ≤ t → t < n → 0 ≤ M6 (x + 9 + 7) t ∧ M6 (x + 9 + 7) t < n ∧ N4 31 (20 * p + M6 (x + 9 + 7) t) = t := fun t t0 t1 => by
    obtain ⟨u1, u2, u3, u4⟩ := OD2.out t t0 t1
    rw [o7, u1]
    exact ⟨u2, u3, u4⟩
  replace o31 := Hid.mk o31
  replace o47 := Hid.mk o47
  have hoi : ∀ k k', 0 ≤ k → k < n → 0 ≤ k' → k' < n → M6 (x + 9 + 7) k = M6 (x + 9 + 7) k' → k = k' := fun k k' k0 k1 k0' k1' e => by
    have u := (o47.out k k0 k1).2.2
    have v := (o47.out k' k0' k1').2.2
    rw [e] at u
    omega
  obtain ⟨M8, E8, f8, FU, l1, l2, l3, l4, l5⟩ := h_lines hh (n := n) (blk := M6 (x + 9 + 24)) (ord := M6 (x + 9 + 7)) (pl := fun i => if 0 ≤ M6 (x + 9 + 24) i then N4 31 (20 * p + M6 (x + 9 + 24) i) else -1) hx hy hx2 npb hpb.out nb.2 (fun k k0 k1 => ⟨(o47.out k k0 k1).1, (o47.out k k0 k1).2.1⟩) (fun i k i0 i1 k0 k1 => by
      obtain ⟨u1, u2, u3⟩ := blk.out i i0 i1
      rw [u1]
      show (if 0 ≤ N7 48 i then N4 31 (20 * p + N7 48 i) else -1) = k ↔ _
      by_cases z : 0 ≤ N7 48 i
      · rw [if_pos z]
        have w := o31.out _ z u3
        have v := o47.out k k0 k1
        exact ⟨fun e => by rw [← e]; exact w.2.2.symm, fun e => by rw [e]; exact v.2.2⟩
      · rw [if_neg z]
        have v := o47.out k k0 k1
        exact ⟨fun e => by omega, fun e => by omega⟩) hoi n.toNat 0 M6 (by omega) (by omega) (by rw [f7 _ _ (by omega), f6 _ _ (by omega), q1]) hP6 (fun _ => rfl) (fun _ _ _ => rfl) (by rw [f7 _ _ (by omega), y10]; omega) (fun k' k0 k1 => by
      have v := o47.out k' k0 k1
      rw [f7 (x + 9 + 6) _ (by omega), f6 _ _ (by omega)]
      exact z6h.out _ v.1 v.2.1) (by rw [f7 (x + 9) _ (by omega), y10, f7 _ _ (by omega), y13]; omega) (by rw [f7 (x + 9) _ (by omega), y10, f7 _ _ (by omega), y13]; exact (cu_b _ _ _).1) (fun u v u0 u1 u2 => by rw [f7 (x + 9) _ (by omega), y10, f7 _ _ (by omega), y13] at u2; omega) (fun u u0 u1 => by rw [f7 (x + 9) _ (by omega), y10, f7 _ _ (by omega), y13] at u1; omega)
  refine rh2.sl E8 ?_
  rw [f7 (x + 9) 10 (by omega), y10] at FU l1 f8
  have CV := Fut.cvx hoi FU (by omega)
  replace CV := Hid.mk CV
  rw [f7 (x + 9) 10 (by omega), y10, f7 _ _ (by omega), y13] at l2
  have F8n : ∀ c j, ¬ ((c = x + 9 ∧ j = 10) ∨ (c = x + 9 + 9 ∨ c = x + 9 + 10 ∨ c = x + 9 + 11 ∨ c = x + 9 + 12) ∨ (c = x + 9 + 13 ∧ 0 < j) ∨ c = x + 9 + 15 ∨ c = x + 9 + 25 ∨ c = x + 9 + 6) → M8 c j = M6 c j := fun c j h => f8 c j (fun z => h (by
    rcases z with z | z | z | z | z | ⟨z, -⟩
    · exact .inl z
    · exact .inr (.inl z.1)
    · exact .inr (.inr (.inl z))
    · exact .inr (.inr (.inr (.inl z.1)))
    · exact .inr (.inr (.inr (.inr (.inl z))))
    · exact .inr (.inr (.inr (.inr (.inr z))))))
  replace l4 := Hid.mk l4
  replace l5 := Hid.mk l5
  replace F8n := Hid.mk F8n
  clear f8
  have F8 : frx (Hly x) Mh M8 := FA.tr (((f6.w (fun c j h => hl_4 (by omega))).tr (f7.w (fun c j h => hl_4 (by omega)))).tr (fun c j h => F8n.out c j (fun z => h (hl_4 (by omega)))))
  have hP8 : PcH M8 x np (N6 16) (N6 17) (N6 18) (N6 19) := hP6.fx (F8n.out _ _ (by omega)) (fun a a0 a1 => funext (fun j => F8n.out _ _ (by omega)))
  have k8 : M8 (x + 9 + 7) = M6 (x + 9 + 7) := funext (fun j => F8n.out _ _ (by omega))
  have w8 : WdR (N6 16) (N6 17) (N6 18) (N6 19) M8 N7 x p np W H 0 0 0 := ⟨by rw [F8n.out _ _ (by omega), f7 _ _ (by omega), y18, i26], by rw [i26]; omega, fun w w0 w1 => by rw [i26] at w1; omega, fun i i0 i1 => ⟨by rw [F8n.out _ _ (by omega), wof.out i i0 i1]; omega, by rw [F8n.out _ _ (by omega), wof.out i i0 i1, i26]; omega, fun w w0 w1 => by rw [i26] at w1; omega⟩, fun w w0 w1 => by rw [i26] at w1; omega, fun w w' w0 w1 w2 => by rw [i26] at w2; omega⟩
  generalize hord : M6 (x + 9 + 7) = ord at *
  generalize hblk : M6 (x + 9 + 24) = blkf at *
  have o47m : ∀ k, 0 ≤ k → k < n → N7 47 k = ord k := fun k k0 k1 => by
    rw [g7 47 k (by omega), g6 47 k (by omega), g5 47 k (by omega), ← (OD2.out k k0 k1).1, o7]
  replace o47m := Hid.mk o47m
  have main : ∀ (m : Nat) (k l wq : Int) (A1 A2 : rhM), k + m = n → 0 ≤ k → 0 ≤ l → frx (fun c j => (c = x + 9 ∧ j = 18) ∨ c = x + 9 + 14 ∨ (x + 9 + 16 ≤ c ∧ c ≤ x + 9 + 23) ∨ c = x + 9 + 26 ∨ c = x + 9 + 27) M8 A1 → frx (Gly p) Mm A2 → frx (fun c j => (c = 0 ∧ (j = 70 ∨ j = 73)) ∨ c = 25 ∨ c = 26 ∨ (32 ≤ c ∧ c ≤ 46) ∨ (49 ≤ c ∧ c ≤ 55)) N7 A2 → A2 25 p = l → Fut (N6 16) (N6 17) (N6 19) np A1 (x + 9) blkf ord m k l → Hid (∀ l', 0 ≤ l' → l' < l → LnR A1 A2 x p l') → Hid (WdR (N6 16) (N6 17) (N6 18) (N6 19) A1 A2 x p np W H l (M8 (x + 9 + 13) l) wq) → A2 0 73 = wq → 0 ≤ wq → wq ≤ M8 (x + 9 + 13) l → Hid (∀ k', 0 ≤ k' → k' < k → A2 32 (20 * p + ord k') = M8 (x + 9 + 6) (ord k')) → Hid (∀ k', k ≤ k' → k' < n → A2 32 (20 * p + ord k') = 0) → rh2 wh YX30_make 6 147 [(0, 2, x + 9), (1, 2, x), (6, 0, l)] [] A1 wm YX32_lay 5 141 [(0, 2, 0), (1, 0, p), (4, 0, k)] [] A2 Post := by
    intro m
    induction m with
    | zero =>
      intro k l wq A1 A2 hk k0 l0 h1 h2 h3 h25 hF hL hW h73 w0 w1 h32 h32'
      have hF : A1 (x + 9) 10 = l := hF
      refine rh2.l (rX30_make_147 hh _ _ _ _ hy hx ?_)
      refine ⟨fun z => by omega, fun _ => ?_⟩
      refine rh1.of (rX32_lay_141 hm _ _ _ ?_)
      have e24 : A2 24 p = n := by rw [h3 _ _ (by omega), g7 _ _ (by omega), g6 _ _ (by omega), g5 _ _ (by omega), p24]
      rw [e24]
      refine ⟨hp, fun z => by omega, fun _ => ⟨hp, ?_⟩⟩
      rw [← hPost]
      have l10 : M8 (x + 9) 10 = l := by rw [← h1 _ _ (by omega), hF]
      refine ⟨F8.tr (h1.w (fun c j h => hl_4 (by omega))), h2.st (.inr (.inr (.inr (.inr (.inl ⟨by omega, by omega, rfl⟩))))), ⟨?_, ?_, fun _ => ⟨?_, ⟨?_, ?_, fun i i0 i1 => ?_⟩, ⟨?_, ?_, fun l' l0' l1' => ?_⟩, ?_⟩⟩, rh_set_s _ _ _ _⟩
      · rw [rh_set_s, h1 _ _ (by omega), F8n.out _ _ (by omega), f7 _ _ (by omega), f6 _ _ (by omega), q0]
      · rw [rh_set_s]; exact .inr rfl
      · rw [h1 _ _ (by omega), F8n.out _ _ (by omega), f7 _ _ (by omega), f6 _ _ (by omega), Xc _ _ (by omega) (by omega)]; exact h4
      · rw [rh_set_a (by omega), e24, h1 _ _ (by omega), F8n.out _ _ (by omega), f7 _ _ (by omega), f6 _ _ (by omega), q1]
      · rw [rh_set_a (by omega), e24]; omega
      · rw [rh_set_a (by omega), e24] at i1
        obtain ⟨u1, u2, u3, u4, u5, u6⟩ := bxh.out i i0 i1
        obtain ⟨v1, v2, v3, -⟩ := OD1.out i i0 i1
        have v4 := o31.out i i0 i1
        have t1 : ∀ c j, 1 ≤ c → c ≤ 5 → A1 (x + 9 + c) j = M4 (x + 9 + c) j := fun c j c0 c1 => by rw [h1 _ _ (by omega), F8n.out _ _ (by omega), f7 _ _ (by omega), f6 _ _ (by omega)]
        have t2 : ∀ c j, 27 ≤ c → c ≤ 31 → rh_set A2 23 p 1 c j = N4 c j := fun c j c0 c1 => by rw [rh_set_a (by omega), h3 _ _ (by omega), g7 _ _ (by omega), g6 _ _ (by omega), g5 _ _ (by omega)]
        rw [t1 1 _ (by omega) (by omega), t1 2 _ (by omega) (by omega), t1 3 _ (by omega) (by omega), t1 4 _ (by omega) (by omega), t1 5 _ (by omega) (by omega), t2 27 _ (by omega) (by omega), t2 28 _ (by omega) (by omega), t2 29 _ (by omega) (by omega), t2 30 _ (by omega) (by omega), t2 31 _ (by omega) (by omega)]
        refine ⟨u1, u2, u3, u4, v1, ?_, u5, u6⟩
        have w := h32.out _ v4.1 (show N4 31 (20 * p + i) < k by omega)
        rw [v4.2.2] at w
        rw [rh_set_a (by omega), w, h1 _ _ (by omega)]
      · rw [rh_set_a (by omega), h25, hF]
      · rw [rh_set_a (by omega), h25, ← l10]; omega
      · rw [rh_set_a (by omega), h25] at l1'
        exact (hL.out l' l0' l1').fx (fun _ _ _ => rfl) rfl (fun a a0 a1 => rh_set_a (by omega))
      · refine ⟨M8 (x + 9 + 13) l, ⟨by omega, by rw [← l10]; exact l3⟩, ?_, fun q q0 q1 => ?_, fun u u' u'' u0 u1 u2 u3 => ?_⟩
        · have e1 : A1 x 6 = np := by rw [h1 _ _ (by omega), F8n.out _ _ (by omega), f7 _ _ (by omega), m6]
          have e2 : rh_set A2 23 p 1 4 p = W := by rw [rh_set_a (by omega), h2 _ _ (by unfold Gly; omega), hWW]
          have e3 : rh_set A2 23 p 1 5 p = H := by rw [rh_set_a (by omega), h2 _ _ (by unfold Gly; omega), hHH]
          have e4 : rh_set A2 23 p 1 25 p = l := by rw [rh_set_a (by omega), h25]
          rw [e1, e2, e3, e4]
          have hW2 : WdR (N6 16) (N6 17) (N6 18) (N6 19) A1 (rh_set A2 23 p 1) x p np W H l (M8 (x + 9 + 13) l) 300 := by
            refine hW.out.fx (by omega) (by omega) ?_ rfl (fun _ _ _ => rfl) (fun _ _ => rfl) (rh_set_a (by omega)) (fun a j _ _ _ _ => rh_set_a (by omega)) (fun j _ _ => rh_set_a (by omega)) (fun l' _ _ => ⟨rh_set_a (by omega), rh_set_a (by omega)⟩)
            rw [← l10] at w1
            omega
          refine hW2.cg (fun q q0 q1 => ?_) (fun i i0 i1 => ?_)
          · rw [h1 _ _ (by omega)]
            exact l5.out q q0 (by rw [l10]; exact q1)
          · obtain ⟨t1, t2, t3, t4⟩ := hP8.2 i i0 i1
            rw [h1 _ _ (by omega), h1 _ _ (by omega), h1 _ _ (by omega), h1 _ _ (by omega)]
            exact ⟨t1, t2, t3, t4⟩
        · have e1 : A1 x 6 = np := by rw [h1 _ _ (by omega), F8n.out _ _ (by omega), f7 _ _ (by omega), m6]
          rw [e1, h1 _ _ (by omega)]
          exact l5.out q q0 (by rw [l10]; exact q1)
        · have e4 : rh_set A2 23 p 1 25 p = l := by rw [rh_set_a (by omega), h25]
          rw [e4] at u3
          have e9 : A1 (x + 9 + 9) = M8 (x + 9 + 9) := h1.cell (fun j => (by omega))
          rw [e9]
          exact CV.out u u' u'' u0 u1 u2 (by rw [l10]; exact u3)
    | succ m ih =>
      intro k l wq A1 A2 hk k0 l0 h1 h2 h3 h25 hF hL hW h73 w0 w1 h32 h32'
      obtain ⟨g, t, G, LB, t6, lt1, lt2, lt3, FU'⟩ := hF
      have a13 : A1 (x + 9 + 13) = M8 (x + 9 + 13) := h1.cell (fun j => (by omega))
      have a15 : A1 (x + 9 + 15) = M8 (x + 9 + 15) := h1.cell (fun j => (by omega))
      have a10 : A1 (x + 9) 10 = M8 (x + 9) 10 := h1 _ _ (by omega)
      have ob := o47.out k k0 (by omega)
      rw [a13, a10] at lt2
      rw [a10] at lt1
      rw [a13] at lt3
      have mono := LB.mono
      refine rh2.r (rX32_lay_141 hm _ _ _ ?_)
      have e24 : A2 24 p = n := by rw [h3 _ _ (by omega), g7 _ _ (by omega), g6 _ _ (by omega), g5 _ _ (by omega), p24]
      have e47 : A2 47 k = ord k := by rw [h3 _ _ (by omega)]; exact o47m.out k k0 (by omega)
      rw [e24, e47]
      refine ⟨hp, fun _ => ⟨⟨by omega, by omega⟩, ?_⟩, fun z => by omega⟩
      obtain ⟨r, N9, EE, A9, wq', v1, v2, v3, v4, v5, v6, v7, v8, v9, v10⟩ := c_linesOfBlock hh hm (l0 := l) (tt := M8 (x + 9 + 13) (M8 (x + 9) 10)) (wpc := wq) (W := W) (H := H) hx hy hx2 hp A1 A2 (hP8.fx (h1 _ _ (by omega)) (fun a a0 a1 => h1.cell (fun j => (by omega)))) (hPm.fx (h3 _ _ (by omega)) (fun a a0 a1 => h3.cell (fun j => (by omega)))) npb hpb.out hpw.out (b := ord k) ⟨by omega, by omega⟩ (G.blk (fun i i0 i1 => by rw [h3 _ _ (by omega)]; exact (blk.out i i0 i1).1.symm)) h25 l0 (by rw [a10]; exact lt1) (by rw [a10]; exact l1.2) LB (by rw [a15]; exact l4.out) (fun u hu => by
        have := mono (t - (u + 1)) (u + 1) (by omega)
        rw [show (u + 1 + (t - (u + 1)) : Nat) = t by omega, show l + ((u + 1 : Nat) : Int) = l + u + 1 by omega, a13] at this
        rw [a13]; omega) (by rw [a13]; exact hW.out) h73 (by rw [a13]; exact ⟨w0, w1⟩) (h32'.out k (by omega) (by omega))
      rw [a13] at v7 v10
      refine rh2.sl v1 (rh2.sr (vX32_lay_161 hm EE (LE0 rfl)) ?_)
      refine rh2.r (rX32_lay_164 hm _ _ _ ?_)
      refine ⟨⟨by omega, by omega⟩, ?_⟩
      have v2' : frx (fun c j => (c = x + 9 ∧ j = 18) ∨ c = x + 9 + 14 ∨ (x + 9 + 16 ≤ c ∧ c ≤ x + 9 + 23) ∨ c = x + 9 + 26 ∨ c = x + 9 + 27) A1 A9 := v2.w (fun c j h => by unfold Flb at h; omega)
      refine ih (k + 1) (l + t) wq' A9 N9 (by omega) (by omega) (by omega) (h1.tr v2') (h2.tr (v3.w (fun c j h => gl_8 h ⟨by omega, by omega⟩ l0 (by omega)))) (h3.tr (v3.w (fun c j h => by unfold Glb at h; omega))) v4 (Fut.fx (v2' _ _ (by omega)) (fun a a0 a1 => v2'.cell (fun j => (by omega))) (v2'.cell (fun j => (by omega))) (v2'.cell (fun j => (by omega))) m _ _ FU') (fun l' l0' l1' => ?_) v7 v8 v9 v10 (fun k' k0' k1' => ?_) (fun k' k0' k1' => ?_)
      · by_cases z : l' < l
        · exact (hL.out l' l0' z).fx (fun a a0 a1 => v2 _ _ (by omega)) (v2 _ _ (by omega)) (fun a a0 a1 => v3 _ _ (by omega))
        · exact v6 l' (by omega) l1'
      · by_cases z : k' = k
        · rw [z, v5, ← t6, h1 _ _ (by omega)]
        · have ob' := o47.out k' k0' (by omega)
          have ne : ord k' ≠ ord k := fun e => z (hoi k' k k0' (by omega) k0 (by omega) e)
          rw [v3 _ _ (by omega)]
          exact h32.out k' k0' (by omega)
      · have ob' := o47.out k' (by omega) k1'
        have ne : ord k' ≠ ord k := fun e => by have := hoi k' k (by omega) k1' k0 (by omega) e; omega
        rw [v3 _ _ (by omega)]
        exact h32'.out k' (by omega) k1'
  have z13 : M8 (x + 9 + 13) 0 = 0 := by rw [F8n.out _ _ (by omega), f7 _ _ (by omega), y13]
  refine main n.toNat 0 0 0 M8 N7 (by omega) (by omega) (by omega) frx.rf G7 frx.rf i25 FU (fun l' l0' l1' => by omega) (by rw [z13]; exact w8) i73 (by omega) (by rw [z13]; omega) (fun k' k0' k1' => by omega) (fun k' k0' k1' => ?_)
  have ob' := o47.out k' k0' k1'
  rw [g7 32 _ (by omega), g6 32 _ (by omega), g5 32 _ (by omega)]
  exact z6m.out _ ob'.1 ob'.2.1
end Layout
