/-! ===== LAYER 2: learn ===== -/
section Learn
variable {wh wm : rhW}
/-- a row of points -/
noncomputable def orf (ink : Int → Int) (W l t y : Int) : Nat → Int
  | 0 => 0
  | k + 1 => rh_or (orf ink W l t y k) (rh_if (ink (W * (t + y) + (l + k)) ≠ 0) (rh_shl 1 k) 0)
abbrev Fle (n c j : Int) : Prop := c = 31 ∨ c = 32 ∨ (c = 41 ∧ j = 0) ∨ (42 ≤ c ∧ c ≤ 46 ∧ j = n) ∨ (c = 47 ∧ 19 * n ≤ j ∧ j < 19 * n + 19) ∨ (c = 48 ∧ 24 * n ≤ j ∧ j < 24 * n + 24)
theorem c_begin (hh : rh_hs wh) {n fc lt w h ri : Int} (M : rhM) (hn : M 41 0 = n) (h0 : 0 ≤ n ∧ n < 150) :
    rC1 wh YX17_begin 0 [(2, 41), (0, fc), (0, lt), (0, w), (0, h), (0, ri)] M (fun r M' => r = n ∧ frx (fun c j => (c = 41 ∧ j = 0) ∨ (42 ≤ c ∧ c ≤ 46 ∧ j = n) ∨ (c = 48 ∧ 24 * n ≤ j ∧ j < 24 * n + 24)) M M' ∧ M' 41 0 = n + 1 ∧ M' 42 n = fc ∧ M' 43 n = lt ∧ M' 44 n = w ∧ M' 45 n = h ∧ M' 46 n = ri ∧ ∀ y, 0 ≤ y → y < 24 → M' 48 (24 * n + y) = 0) := by
  refine rC1.of (by decide) (LE0 rfl) ?_
  refine rh1.of (rX17_begin_0 hh _ _ _ _ _ _ ?_)
  rw [hn]
  refine ⟨⟨by omega, by omega⟩, h0, h0, h0, h0, h0, ?_⟩
  generalize hM1 : rh_set (rh_set (rh_set (rh_set (rh_set (rh_set M 41 0 (n + 1)) 42 n fc) 43 n lt) 44 n w) 45 n h) 46 n ri = M1
  have f0 : frx (fun c j => (c = 41 ∧ j = 0) ∨ (42 ≤ c ∧ c ≤ 46 ∧ j = n) ∨ (c = 48 ∧ 24 * n ≤ j ∧ j < 24 * n + 24)) M M1 := by rw [← hM1]; exact (((((frx.rf.st (by omega)).st (by omega)).st (by omega)).st (by omega)).st (by omega)).st (by omega)
  have v0 : M1 41 0 = n + 1 ∧ M1 42 n = fc ∧ M1 43 n = lt ∧ M1 44 n = w ∧ M1 45 n = h ∧ M1 46 n = ri := by
    rw [← hM1]
    refine ⟨?_, ?_, ?_, ?_, ?_, ?_⟩
    all_goals simp (disch := omega) only [rh_set_a, rh_set_s]
  have key : ∀ (vq : Nat) (k : Int) (M2 : rhM), (24 - k).toNat = vq → (0 ≤ k) → (k ≤ 24) → (frx (fun c j => c = 48 ∧ 24 * n ≤ j ∧ j < 24 * n + 24) M1 M2) → ((∀ y, 0 ≤ y → y < k → M2 48 (24 * n + y) = 0)) → rh1 wh YX17_begin 0 58 [(0, 2, 41), (6, 0, n), (7, 0, k)] [] M2 (fun r M' => r = n ∧ frx (fun c j => (c = 41 ∧ j = 0) ∨ (42 ≤ c ∧ c ≤ 46 ∧ j = n) ∨ (c = 48 ∧ 24 * n ≤ j ∧ j < 24 * n + 24)) M M' ∧ M' 41 0 = n + 1 ∧ M' 42 n = fc ∧ M' 43 n = lt ∧ M' 44 n = w ∧ M' 45 n = h ∧ M' 46 n = ri ∧ ∀ y, 0 ≤ y → y < 24 → M' 48 (24 * n + y) = 0) := by
    intro vq
    induction vq using Nat.strongRecOn with
    | ind vq ih =>
      intro k M2 hvq k0 k1 f hk
      refine rh1.of (rX17_begin_58 hh _ _ _ ?_)
      refine ⟨fun c => ⟨⟨by omega, by omega⟩, ⟨by omega, by omega⟩, ih _ (by omega) (k + 1) _ rfl (by omega) (by omega) (f.st (by omega)) (fun y y0 y1 => ?_)⟩, fun c => ⟨rfl, f0.tr (f.w (fun c j h => .inr (.inr h))), ?_, ?_, ?_, ?_, ?_, ?_, fun y y0 y1 => hk y y0 (by omega)⟩⟩
      · by_cases q : y = k
        · rw [q, rh_set_s]
        · rw [rh_set_j (by omega)]; exact hk y y0 (by omega)
      · rw [f _ _ (by omega)]; exact v0.1
      · rw [f _ _ (by omega)]; exact v0.2.1
      · rw [f _ _ (by omega)]; exact v0.2.2.1
      · rw [f _ _ (by omega)]; exact v0.2.2.2.1
      · rw [f _ _ (by omega)]; exact v0.2.2.2.2.1
      · rw [f _ _ (by omega)]; exact v0.2.2.2.2.2
  exact key _ 0 M1 rfl (by omega) (by omega) frx.rf (fun y y0 y1 => by omega)
theorem c_learnH (hh : rh_hs wh) {x w0 W H l t r b lh lb n fc lt : Int} {ink : Int → Int} (hx : rh_bl wh 0 x 0) (hx2 : 100 ≤ x) (M : rhM) (hc : CtH M x w0 W H ink) (hW : 0 ≤ W) (hWb : W ≤ 128) (hHb : H ≤ 96) (hN : W * H ≤ 6144) (h11 : M 25 11 = l) (h12 : M 25 12 = t) (h13 : M 25 13 = r) (h14 : M 25 14 = b) (hl : 0 ≤ l ∧ l < r ∧ r ≤ W) (ht : 0 ≤ t ∧ t < b ∧ b ≤ H) (h2 : M 25 2 = lh) (h3 : M 25 3 = lb) (hlh : 1 ≤ lh ∧ lh ≤ 96) (hlb : b ≤ lb ∧ lb ≤ 96) (hw24 : r - l ≤ 24) (hh24 : b - t ≤ 24) (hn : M 41 0 = n) (h0 : 0 ≤ n ∧ n < 150) :
    rC1 wh YX17_learn 5 [(2, 41), (0, fc), (0, lt), (2, 25)] M (fun r9 M' => r9 = n ∧ frx (Fle n) M M' ∧ M' 41 0 = n + 1 ∧ M' 42 n = fc ∧ M' 43 n = lt ∧ M' 44 n = r - l ∧ M' 45 n = b - t ∧ M' 46 n = lb - b ∧ (∀ k, 0 ≤ k → k < 19 → M' 47 (19 * n + k) = fea ink W l t r b lh lb k) ∧ ∀ y, 0 ≤ y → y < 24 → M' 48 (24 * n + y) = if y < b - t then orf ink W l t y (r - l).toNat else 0) := by
  refine rC1.of (by decide) (LE0 rfl) ?_
  generalize hPost : (fun (r9 : Int) (M' : rhM) => r9 = n ∧ frx (Fle n) M M' ∧ M' 41 0 = n + 1 ∧ M' 42 n = fc ∧ M' 43 n = lt ∧ M' 44 n = r - l ∧ M' 45 n = b - t ∧ M' 46 n = lb - b ∧ (∀ k, 0 ≤ k → k < 19 → M' 47 (19 * n + k) = fea ink W l t r b lh lb k) ∧ ∀ y, 0 ≤ y → y < 24 → M' 48 (24 * n + y) = if y < b - t then orf ink W l t y (r - l).toNat else 0) = Post
  refine rh1.of (rX17_learn_0 hh _ _ _ ?_)
  obtain ⟨r1, M1, E1, f1, v1⟩ := c_describe hh hx hx2 M hc hW hWb hHb hN h11 h12 h13 h14 hl ht h2 h3 hlh hlb
  refine rh1.s (vX17_learn_1 hh E1 (LE0 rfl)) ?_
  replace v1 := Hid.mk v1
  refine rh1.of (rX17_learn_4 hh _ _ _ ?_)
  rw [f1 25 3 (by omega), f1 25 14 (by omega), f1 25 12 (by omega), f1 25 13 (by omega), f1 25 11 (by omega), h11, h12, h13, h14, h3]
  refine ⟨⟨by omega, by omega⟩, ?_⟩
  refine rh1.s (eS.fx 1 (x := b - t) rfl ⟨by omega, by omega⟩ rfl) (rh1.s (eS.fx 2 (x := r - l) rfl ⟨by omega, by omega⟩ rfl) ?_)
  obtain ⟨r2, M2, E2, er2, f2, b0, b1, b2, b3, b4, b5, b6⟩ := c_begin hh (n := n) (fc := fc) (lt := lt) (w := r - l) (h := b - t) (ri := lb - b) M1 (by rw [f1 _ _ (by omega), hn]) h0
  refine rh1.s (vX17_learn_29 hh E2 (LE0 rfl)) ?_
  rw [er2]
  refine rh1.of (rX17_learn_32 hh _ _ ?_)
  have ctx : ∀ A, frx (fun c j => c = 48) M2 A → CtH A x w0 W H ink := fun A fA => hc.fx (by rw [fA _ _ (by omega), f2 _ _ (by omega), f1 _ _ (by omega)]) (by rw [fA _ _ (by omega), f2 _ _ (by omega), f1 _ _ (by omega)]) (by rw [fA _ _ (by omega), f2 _ _ (by omega), f1 _ _ (by omega)]) (by rw [fA.cell (fun j => (by omega)), f2.cell (fun j => (by omega)), f1.cell (fun j => (by omega))]) (by rw [fA.cell (fun j => (by omega)), f2.cell (fun j => (by omega)), f1.cell (fun j => (by omega))])
  replace ctx := Hid.mk ctx
  have key : ∀ (vq : Nat) (y : Int) (A : rhM), (b - t - y).toNat = vq → (0 ≤ y) → (y ≤ b - t) → (frx (fun c j => c = 48 ∧ 24 * n ≤ j ∧ j < 24 * n + 24) M2 A) → (Hid (∀ v, 0 ≤ v → v < 24 → A 48 (24 * n + v) = if v < y then orf ink W l t v (r - l).toNat else 0)) → rh1 wh YX17_learn 5 37 [(0, 2, 41), (3, 2, 25), (4, 0, n), (5, 0, y)] [] A Post := by
    intro vq
    induction vq using Nat.strongRecOn with
    | ind vq ih =>
      intro y A hvq y0 y1 fA hA
      refine rh1.of (rX17_learn_37 hh _ _ _ ?_)
      rw [fA 45 n (by omega), b4]
      refine ⟨h0, fun c => ?_, fun c => ?_⟩
      · have inner : ∀ (vq : Nat) (u : Nat) (A2 : rhM), (r - l - u).toNat = vq → (u : Int) ≤ r - l → frx (fun c j => c = 48 ∧ 24 * n ≤ j ∧ j < 24 * n + 24) M2 A2 → Hid (∀ v, 0 ≤ v → v < 24 → A2 48 (24 * n + v) = if v < y then orf ink W l t v (r - l).toNat else if v = y then orf ink W l t y u else 0) → rh1 wh YX17_learn 5 52 [(0, 2, 41), (3, 2, 25), (4, 0, n), (5, 0, y), (6, 0, (u : Int))] [] A2 Post := by
          intro vq
          induction vq using Nat.strongRecOn with
          | ind vq ihi =>
            intro u A2 hvq2 u1 fB hB
            refine rh1.of (rX17_learn_52 hh _ _ _ _ ?_)
            rw [fB 44 n (by omega), b3]
            refine ⟨h0, fun d => ⟨⟨by omega, by omega⟩, ?_⟩, fun d => ⟨⟨by omega, by omega⟩, ?_⟩⟩
            · have e48 : A2 48 (24 * n + y) = orf ink W l t y u := by rw [hB.out y y0 (by omega), if_neg (by omega), if_pos rfl]
              have e12 : A2 25 12 = t := by rw [fB _ _ (by omega), f2 _ _ (by omega), f1 _ _ (by omega), h12]
              have e11 : A2 25 11 = l := by rw [fB _ _ (by omega), f2 _ _ (by omega), f1 _ _ (by omega), h11]
              rw [e48, e11, e12]
              refine rh1.s (eS.fx 0 (x := t + y) rfl ⟨by omega, by omega⟩ rfl) (rh1.s (eS.fx 1 (x := l + u) rfl ⟨by omega, by omega⟩ rfl) (rh1.s (eS.fx 4 (x := 24 * n + y) rfl ⟨by omega, by omega⟩ rfl) ?_))
              refine rh1.s (vX17_learn_93 hh (c_isInk hh hx A2 (ctx.out A2 (fB.w (fun c j h => h.1))) hW hN (u := l + u) (v := t + y) (by omega) (by omega) (by omega) (by omega)) (LE0 rfl)) ?_
              refine rh1.of (rX17_learn_96 hh _ _ _ _ _ _ _ ?_)
              rw [propext if1_ne]
              rintro _ rfl
              refine ⟨⟨by omega, by omega⟩, ⟨by omega, by omega⟩, ?_⟩
              rw [show (u : Int) + 1 = ((u + 1 : Nat) : Int) by omega]
              refine ihi _ (by omega) (u + 1) _ rfl (by omega) (fB.st (by omega)) (fun v v0 v1 => ?_)
              by_cases q : v = y
              · rw [q, rh_set_s, if_neg (by omega), if_pos rfl]; rfl
              · rw [rh_set_j (by omega), hB.out v v0 v1, if_neg q, if_neg q]
            · refine ih _ (by omega) (y + 1) A2 rfl (by omega) (by omega) fB (fun v v0 v1 => ?_)
              rw [hB.out v v0 v1]
              by_cases q : v < y
              · rw [if_pos q, if_pos (by omega)]
              · rw [if_neg q]
                by_cases q2 : v = y
                · rw [if_pos q2, if_pos (by omega), q2, show (r - l).toNat = u by omega]
                · rw [if_neg q2, if_neg (by omega)]
        refine inner _ 0 A rfl (by omega) fA (fun v v0 v1 => ?_)
        rw [hA.out v v0 v1]
        by_cases q : v < y
        · rw [if_pos q, if_pos q]
        · rw [if_neg q, if_neg q]
          by_cases q2 : v = y
          · rw [if_pos q2]; rfl
          · rw [if_neg q2]
      · have a31 := rh_hs_ar hh 31 (ty := .int) (len := 19) (by decide) rfl
        have a47 := rh_hs_ar hh 47 (ty := .int) (len := 2850) (by decide) rfl
        refine rh1.s (vX17_learn_137 (ty := .int) (tt := 0) (n0 := 19) (n1 := 2850) rfl rfl rfl a31 a47 rfl rfl rfl (by omega) (by omega) (by omega) (by omega) (by omega) (by decide) (by decide) (LE0 rfl)) ?_
        refine rh1.of (rX17_learn_140 hh _ _ ?_)
        rw [← hPost]
        have ek : y = b - t := (by omega)
        rw [ek] at hA
        have en : ∀ c j, c ≠ 47 → rh_cpy A 31 0 47 (19 * n) 19 c j = A c j := fun c j h => rh_cpy_a h
        refine ⟨rfl, ?_, ?_, ?_, ?_, ?_, ?_, ?_, fun k k0 k1 => ?_, fun v v0 v1 => ?_⟩
        · refine frx.cpy (((f1.w (fun c j h => ?_)).tr (f2.w (fun c j h => ?_))).tr (fA.w (fun c j h => ?_))) (fun j j0 j1 => .inr (.inr (.inr (.inr (.inl ⟨rfl, j0, j1⟩)))))
          · rcases h with h | h
            · exact .inl h
            · exact .inr (.inl h)
          · rcases h with h | h | h
            · exact .inr (.inr (.inl h))
            · exact .inr (.inr (.inr (.inl h)))
            · exact .inr (.inr (.inr (.inr (.inr h))))
          · exact .inr (.inr (.inr (.inr (.inr h))))
        · rw [en _ _ (by omega), fA _ _ (by omega), b0]
        · rw [en _ _ (by omega), fA _ _ (by omega), b1]
        · rw [en _ _ (by omega), fA _ _ (by omega), b2]
        · rw [en _ _ (by omega), fA _ _ (by omega), b3]
        · rw [en _ _ (by omega), fA _ _ (by omega), b4]
        · rw [en _ _ (by omega), fA _ _ (by omega), b5]
        · unfold rh_cpy
          rw [if_pos rfl, if_pos (by omega), show 0 + (19 * n + k - 19 * n) = k by omega, fA _ _ (by omega), f2 _ _ (by omega)]
          exact v1.out k k0 k1
        · rw [en _ _ (by omega)]; exact hA.out v v0 v1
  refine key _ 0 M2 rfl (by omega) (by omega) frx.rf (fun v v0 v1 => ?_)
  rw [b6 v v0 v1, if_neg (by omega)]
abbrev Gke (n c j : Int) : Prop := c = 62 ∨ (c = 0 ∧ j = 89) ∨ (63 ≤ c ∧ c ≤ 67 ∧ j = n) ∨ (c = 68 ∧ 19 * n ≤ j ∧ j < 19 * n + 19) ∨ (c = 69 ∧ 24 * n ≤ j ∧ j < 24 * n + 24)
theorem c_keepForm (hm : rh_ms wm) {W H l t r b lh lb n fc lt : Int} (M : rhM) (hW0 : M 0 17 = W) (hW : 0 ≤ W) (hWb : W ≤ 128) (hHb : H ≤ 96) (hN : W * H ≤ 6144) (h11 : M 0 84 = l) (h12 : M 0 85 = t) (h13 : M 0 86 = r) (h14 : M 0 87 = b) (hl : 0 ≤ l ∧ l < r ∧ r ≤ W) (ht : 0 ≤ t ∧ t < b ∧ b ≤ H) (h2 : M 0 82 = lh) (h3 : M 0 83 = lb) (hlh : 1 ≤ lh ∧ lh ≤ 96) (hlb : b ≤ lb ∧ lb ≤ 96) (hw24 : r - l ≤ 24) (hh24 : b - t ≤ 24) (hn : M 0 89 = n) (h0 : 0 ≤ n ∧ n < 150) :
    rC1 wm YX32_keepForm 3 [(2, 0), (0, fc), (0, lt)] M (fun _ M' => frx (Gke n) M M' ∧ M' 0 89 = n + 1 ∧ M' 63 n = fc ∧ M' 64 n = lt ∧ M' 65 n = r - l ∧ M' 66 n = b - t ∧ M' 67 n = lb - b ∧ (∀ k, 0 ≤ k → k < 19 → M' 68 (19 * n + k) = fea (M 11) W l t r b lh lb k) ∧ ∀ y, 0 ≤ y → y < 24 → M' 69 (24 * n + y) = if y < b - t then orf (M 11) W l t y (r - l).toNat else 0) := by
  refine rC1.of (by decide) (LE0 rfl) ?_
  generalize hPost : (fun (_ : Int) (M' : rhM) => frx (Gke n) M M' ∧ M' 0 89 = n + 1 ∧ M' 63 n = fc ∧ M' 64 n = lt ∧ M' 65 n = r - l ∧ M' 66 n = b - t ∧ M' 67 n = lb - b ∧ (∀ k, 0 ≤ k → k < 19 → M' 68 (19 * n + k) = fea (M 11) W l t r b lh lb k) ∧ ∀ y, 0 ≤ y → y < 24 → M' 69 (24 * n + y) = if y < b - t then orf (M 11) W l t y (r - l).toNat else 0) = Post
  refine rh1.of (rX32_keepForm_0 hm _ _ _ ?_)
  rw [hn]
  refine ⟨⟨by omega, by omega⟩, h0, h0, ?_⟩
  rintro _ rfl
  simp (disch := omega) only [rh_set_a, rh_set_j, h11, h12, h13, h14, h3]
  refine fun v1 e1 => ⟨h0, ⟨by omega, by omega⟩, ?_⟩
  rintro _ rfl
  simp (disch := omega) only [rh_set_a, rh_set_j, h11, h12, h13, h14, h3]
  refine fun v2 e2 => ⟨h0, ⟨by omega, by omega⟩, ?_⟩
  rintro _ rfl
  simp (disch := omega) only [rh_set_a, rh_set_j, h11, h12, h13, h14, h3]
  refine fun v3 e3 => ⟨h0, ⟨by omega, by omega⟩, ?_⟩
  generalize hM1 : rh_set (rh_set (rh_set (rh_set (rh_set (rh_set M 0 89 (n + 1)) 63 n fc) 64 n lt) 65 n v1) 66 n v2) 67 n v3 = M1
  have f1 : frx (fun c j => (c = 0 ∧ j = 89) ∨ (63 ≤ c ∧ c ≤ 67 ∧ j = n)) M M1 := by rw [← hM1]; exact (((((frx.rf.st (by omega)).st (by omega)).st (by omega)).st (by omega)).st (by omega)).st (by omega)
  have v0 : M1 0 89 = n + 1 ∧ M1 63 n = fc ∧ M1 64 n = lt ∧ M1 65 n = r - l ∧ M1 66 n = b - t ∧ M1 67 n = lb - b := by
    rw [← hM1]
    refine ⟨?_, ?_, ?_, ?_, ?_, ?_⟩
    all_goals simp (disch := omega) only [rh_set_a, rh_set_s, e1, e2, e3]
  obtain ⟨r2, M2, E2, f2, w2⟩ := c_findFeatures hm (W := W) (H := H) (l := l) (t := t) (r := r) (b := b) (lh := lh) (lb := lb) M1 (by rw [f1 _ _ (by omega), hW0]) hW hWb hHb hN (by rw [f1 _ _ (by omega), h11]) (by rw [f1 _ _ (by omega), h12]) (by rw [f1 _ _ (by omega), h13]) (by rw [f1 _ _ (by omega), h14]) hl ht (by rw [f1 _ _ (by omega), h2]) (by rw [f1 _ _ (by omega), h3]) hlh hlb
  refine rh1.s (vX32_keepForm_75 hm E2 (LE0 rfl)) ?_
  rw [f1.cell (a := 11) (fun j => (by omega))] at w2
  replace w2 := Hid.mk w2
  refine rh1.of (rX32_keepForm_78 hm _ _ ?_)
  have key : ∀ (vq : Nat) (k : Int) (A : rhM), (19 - k).toNat = vq → (0 ≤ k) → (k ≤ 19) → (frx (fun c j => c = 68 ∧ 19 * n ≤ j ∧ j < 19 * n + 19) M2 A) → (Hid (∀ i, 0 ≤ i → i < k → A 68 (19 * n + i) = fea (M 11) W l t r b lh lb i)) → rh1 wm YX32_keepForm 3 81 [(0, 2, 0), (3, 0, n), (4, 0, k)] [] A Post := by
    intro vq
    induction vq using Nat.strongRecOn with
    | ind vq ih =>
      intro k A hvq k0 k1 fA hA
      refine rh1.of (rX32_keepForm_81 hm _ _ _ ?_)
      refine ⟨fun c => ⟨⟨by omega, by omega⟩, ⟨by omega, by omega⟩, ⟨by omega, by omega⟩, ih _ (by omega) (k + 1) _ rfl (by omega) (by omega) (fA.st (by omega)) (fun i i0 i1 => ?_)⟩, fun c => ?_⟩
      · by_cases q : i = k
        · rw [q, rh_set_s, fA _ _ (by omega)]; exact w2.out k k0 c
        · rw [rh_set_j (by omega)]; exact hA.out i i0 (by omega)
      · have ek : k = 19 := (by omega)
        rw [ek] at hA
        have key2 : ∀ (vq : Nat) (y : Int) (A2 : rhM), (24 - y).toNat = vq → (0 ≤ y) → (y ≤ 24) → (frx (fun c j => (c = 68 ∧ 19 * n ≤ j ∧ j < 19 * n + 19) ∨ (c = 69 ∧ 24 * n ≤ j ∧ j < 24 * n + 24)) M2 A2) → (A2 68 = A 68) → (Hid (∀ v, 0 ≤ v → v < y → A2 69 (24 * n + v) = if v < b - t then orf (M 11) W l t v (r - l).toNat else 0)) → rh1 wm YX32_keepForm 3 116 [(0, 2, 0), (3, 0, n), (4, 0, y)] [] A2 Post := by
          intro vq
          induction vq using Nat.strongRecOn with
          | ind vq ih2 =>
            intro y A2 hvq y0 y1 fB hB hC
            have g : ∀ c j, c ≠ 68 → c ≠ 69 → A2 c j = M2 c j := fun c j a1 a2 => fB _ _ (by omega)
            refine rh1.of (rX32_keepForm_116 hm _ _ _ ?_)
            refine ⟨fun d => ?_, fun d => ?_⟩
            · have key3 : ∀ (vq : Nat) (u : Nat) (s : Int), (r - l - u).toNat = vq → ((u : Int) ≤ r - l) → ((y < b - t → s = orf (M 11) W l t y u)) → ((¬ (y < b - t) → s = 0)) → rh1 wm YX32_keepForm 3 129 [(0, 2, 0), (3, 0, n), (4, 0, y), (5, 0, s), (6, 0, (u : Int))] [] A2 Post := by
                intro vq
                induction vq using Nat.strongRecOn with
                | ind vq ih3 =>
                  intro u s hvq u1 hs hs2
                  replace hs := Hid.mk hs
                  replace hs2 := Hid.mk hs2
                  refine rh1.of (rX32_keepForm_129 hm _ _ _ _ _ ?_)
                  have e65 : A2 65 n = r - l := by rw [g _ _ (by omega) (by omega), f2 _ _ (by omega)]; exact v0.2.2.2.1
                  have e66 : A2 66 n = b - t := by rw [g _ _ (by omega) (by omega), f2 _ _ (by omega)]; exact v0.2.2.2.2.1
                  have e85 : A2 0 85 = t := by rw [g _ _ (by omega) (by omega), f2 _ _ (by omega), f1 _ _ (by omega), h12]
                  have e84 : A2 0 84 = l := by rw [g _ _ (by omega) (by omega), f2 _ _ (by omega), f1 _ _ (by omega), h11]
                  have e17 : A2 0 17 = W := by rw [g _ _ (by omega) (by omega), f2 _ _ (by omega), f1 _ _ (by omega), hW0]
                  have e11 : A2 11 = M 11 := funext (fun j => by rw [g _ _ (by omega) (by omega), f2 _ _ (by omega), f1 _ _ (by omega)])
                  rw [e65, e66, e85, e84, e17, e11, Int.mul_comm (t + y) W, Int.add_assoc (W * (t + y)) l (u : Int)]
                  refine ⟨h0, fun _ => h0, fun e => ?_, fun e => ⟨⟨by omega, by omega⟩, ⟨by omega, by omega⟩, ?_⟩⟩
                  · have kb := mul_lt (show 0 ≤ l + (u : Int) by omega) (show l + (u : Int) < W by omega) (show 0 ≤ t + y by omega) (show t + y < H by omega)
                    have kz := Int.mul_nonneg hW (show 0 ≤ t + y by omega)
                    refine ⟨⟨by omega, by omega⟩, ?_⟩
                    rintro _ rfl
                    refine ⟨⟨by omega, by omega⟩, ?_⟩
                    rw [show (u : Int) + 1 = ((u + 1 : Nat) : Int) by omega]
                    refine ih3 _ (by omega) (u + 1) _ rfl (by omega) (fun _ => ?_) (fun z => absurd e.2 z)
                    rw [hs.out e.2]; rfl
                  · refine ih2 _ (by omega) (y + 1) _ rfl (by omega) (by omega) (fB.st (by omega)) (by rw [rh_set_n (by omega), hB]) (fun v v0 v1 => ?_)
                    by_cases q : v = y
                    · rw [q, rh_set_s]
                      by_cases q2 : y < b - t
                      · rw [if_pos q2, hs.out q2, show (r - l).toNat = u by omega]
                      · rw [if_neg q2, hs2.out q2]
                    · rw [rh_set_j (by omega)]; exact hC.out v v0 (by omega)
              exact key3 _ 0 0 rfl (by omega) (fun _ => rfl) (fun _ => rfl)
            · rw [← hPost]
              have ey : y = 24 := (by omega)
              rw [ey] at hC
              refine ⟨?_, ?_, ?_, ?_, ?_, ?_, ?_, fun k k0 k1 => ?_, hC.out⟩
              · refine ((f1.w (fun c j h => ?_)).tr (f2.w (fun c j h => .inl h))).tr (fB.w (fun c j h => ?_))
                · rcases h with h | h
                  · exact .inr (.inl h)
                  · exact .inr (.inr (.inl h))
                · rcases h with h | h
                  · exact .inr (.inr (.inr (.inl h)))
                  · exact .inr (.inr (.inr (.inr h)))
              · rw [g _ _ (by omega) (by omega), f2 _ _ (by omega)]; exact v0.1
              · rw [g _ _ (by omega) (by omega), f2 _ _ (by omega)]; exact v0.2.1
              · rw [g _ _ (by omega) (by omega), f2 _ _ (by omega)]; exact v0.2.2.1
              · rw [g _ _ (by omega) (by omega), f2 _ _ (by omega)]; exact v0.2.2.2.1
              · rw [g _ _ (by omega) (by omega), f2 _ _ (by omega)]; exact v0.2.2.2.2.1
              · rw [g _ _ (by omega) (by omega), f2 _ _ (by omega)]; exact v0.2.2.2.2.2
              · rw [hB]; exact hA.out k k0 k1
        exact key2 _ 0 A rfl (by omega) (by omega) (fA.w (fun c j h => .inl h)) rfl (fun v v0 v1 => by omega)
  exact key _ 0 M2 rfl (by omega) (by omega) frx.rf (fun i i0 i1 => by omega)
/-- a part at hand, of any width -/
def Pt7 (M1 M2 : rhM) (W H : Int) : Prop := M1 25 11 = M2 0 84 ∧ M1 25 12 = M2 0 85 ∧ M1 25 13 = M2 0 86 ∧ M1 25 14 = M2 0 87 ∧ (0 ≤ M2 0 84 ∧ M2 0 84 < M2 0 86 ∧ M2 0 86 ≤ W) ∧ (0 ≤ M2 0 85 ∧ M2 0 85 < M2 0 87 ∧ M2 0 87 ≤ H) ∧ M2 0 87 ≤ M2 0 83 ∧ M2 0 83 - M2 0 82 ≤ M2 0 85
theorem c_keep7 (hh : rh_hs wh) (hm : rh_ms wm) {x w W H fc lt : Int} (hx : rh_bl wh 0 x 0) (hx2 : 100 ≤ x) {Mh Mm : rhM} (P : Prp Mh Mm x w W H) (T : Pt7 Mh Mm W H) (F : Rfm Mh Mm) (hW : 0 ≤ W) (hWb : W ≤ 128) (hHb : H ≤ 96) (hN : W * H ≤ 6144) (hfc : 0 ≤ fc ∧ fc ≤ 3) (hlt : 33 ≤ lt ∧ lt ≤ 126) (hw24 : Mm 0 86 - Mm 0 84 ≤ 24) (hh24 : Mm 0 87 - Mm 0 85 ≤ 24) (h150 : Mm 0 89 < 150) :
    rC2 wh YX17_learn 5 [(2, 41), (0, fc), (0, lt), (2, 25)] Mh wm YX32_keepForm 3 [(2, 0), (0, fc), (0, lt)] Mm (fun r M1 _ M2 => r = Mm 0 89 ∧ frx (Fle (Mm 0 89)) Mh M1 ∧ frx (Gke (Mm 0 89)) Mm M2 ∧ M2 0 89 = Mm 0 89 + 1 ∧ Rfm M1 M2) := by
  obtain ⟨t1, t2, t3, t4, t5, t6, t7⟩ := T
  obtain ⟨p1, p2, -, p4, p5, -⟩ := P
  obtain ⟨F1, F2, F3⟩ := F
  obtain ⟨r1, M1, E1, e1, f1, a0, a1, a2, a3, a4, a5, a6, a7⟩ := c_learnH hh (l := Mm 0 84) (t := Mm 0 85) (r := Mm 0 86) (b := Mm 0 87) (lh := Mm 0 82) (lb := Mm 0 83) (n := Mm 0 89) (fc := fc) (lt := lt) hx hx2 Mh p1 hW hWb hHb hN t1 t2 t3 t4 t5 t6 p4.1 p5.1 p4.2 ⟨t7.1, p5.2⟩ hw24 hh24 F1 ⟨by omega, by omega⟩
  obtain ⟨r2, M2, E2, f2, b0, b1, b2, b3, b4, b5, b6, b7⟩ := c_keepForm hm (W := W) (H := H) (l := Mm 0 84) (t := Mm 0 85) (r := Mm 0 86) (b := Mm 0 87) (lh := Mm 0 82) (lb := Mm 0 83) (n := Mm 0 89) (fc := fc) (lt := lt) Mm p2.1 hW hWb hHb hN rfl rfl rfl rfl t5 t6 rfl rfl p4.2 ⟨t7.1, p5.2⟩ hw24 hh24 rfl ⟨by omega, by omega⟩
  refine ⟨r1, M1, r2, M2, E1, E2, e1, f1, f2, b0, by rw [a0, b0], by rw [b0]; omega, fun f f0 f1' => ?_⟩
  rw [b0] at f1'
  by_cases q : f = Mm 0 89
  · rw [q]
    unfold FmR
    rw [a1, a2, a3, a4, a5, b1, b2, b3, b4, b5]
    refine ⟨⟨rfl, hfc⟩, ⟨rfl, hlt⟩, ⟨rfl, ⟨by omega, by omega⟩⟩, ⟨rfl, ⟨by omega, by omega⟩⟩, ⟨rfl, ⟨by omega, by omega⟩⟩, fun k k0 k1 => ?_, fun y y0 y1 => by rw [a7 y y0 y1, b7 y y0 y1]⟩
    rw [a6 k k0 k1, b6 k k0 k1]
    exact ⟨rfl, fea_b2 (by omega) (by omega) (by omega) (by omega) (by omega)⟩
  · exact (F3 f f0 (by omega)).fx (fun c c0 c1 => f1 _ _ (by omega)) (fun j j0 j1 => f1 _ _ (by omega)) (fun j j0 j1 => f1 _ _ (by omega)) (fun c c0 c1 => f2 _ _ (by omega)) (fun j j0 j1 => f2 _ _ (by omega)) (fun j j0 j1 => f2 _ _ (by omega))
theorem c_keep (hh : rh_hs wh) (hm : rh_ms wm) {x w W H fc lt : Int} (hx : rh_bl wh 0 x 0) (hx2 : 100 ≤ x) {Mh Mm : rhM} (P : Prp Mh Mm x w W H) (T : Ptr Mh Mm W H) (F : Rfm Mh Mm) (hW : 0 ≤ W) (hWb : W ≤ 128) (hHb : H ≤ 96) (hN : W * H ≤ 6144) (hfc : 0 ≤ fc ∧ fc ≤ 3) (hlt : 33 ≤ lt ∧ lt ≤ 126) (hw24 : Mm 0 86 - Mm 0 84 ≤ 24) (hh24 : Mm 0 87 - Mm 0 85 ≤ 24) (h150 : Mm 0 89 < 150) :
    rC2 wh YX17_learn 5 [(2, 41), (0, fc), (0, lt), (2, 25)] Mh wm YX32_keepForm 3 [(2, 0), (0, fc), (0, lt)] Mm (fun r M1 _ M2 => r = Mm 0 89 ∧ frx (Fle (Mm 0 89)) Mh M1 ∧ frx (Gke (Mm 0 89)) Mm M2 ∧ M2 0 89 = Mm 0 89 + 1 ∧ Rfm M1 M2) := by
  exact c_keep7 hh hm hx hx2 P ⟨T.1, T.2.1, T.2.2.1, T.2.2.2.1, T.2.2.2.2.1, T.2.2.2.2.2.1, T.2.2.2.2.2.2.1⟩ F hW hWb hHb hN hfc hlt hw24 hh24 h150
end Learn
