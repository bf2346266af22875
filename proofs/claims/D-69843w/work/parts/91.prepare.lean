/-! ===== LAYER 2: a word comes to hand (prepare, findPlaces) ===== -/
section Prepare
variable {wh wm : rhW}
/-- the house counts the columns -/
theorem h_cols (hh : rh_hs wh) {x w W H l t r b : Int} {ink : Int → Int} (hx : rh_bl wh 0 x 0) (hy : rh_bl wh 1 (x + 9) 0) (hx2 : 100 ≤ x) (hW : 0 < W) (hWb : W ≤ 128) (hHb : H ≤ 96) (hN : W * H ≤ 6144) (hw : 0 ≤ w ∧ w < 80) (hl : 0 ≤ l ∧ l < r ∧ r ≤ W) (ht : 0 ≤ t ∧ t < b ∧ b ≤ H) (hbox : ∀ u v, 0 ≤ u → u < W → 0 ≤ v → v < H → ink (W * v + u) ≠ 0 → (l ≤ u ∧ u < r) ∧ (t ≤ v ∧ v < b)) :
    ∀ (n : Nat) (u : Int) (M : rhM), u + n = r → l ≤ u → CtH M x w W H ink → M (x + 9 + 19) w = l → M (x + 9 + 20) w = t → M (x + 9 + 21) w = r → M (x + 9 + 22) w = b → (∀ j, 0 ≤ j → j < 132 → M 26 j = if l ≤ j ∧ j < u then ccn ink W j H.toNat else 0) →
      ∃ M', eS wh YX16_prepare 2 79 [(0, 2, 25), (2, 0, w), (3, 2, x + 9), (5, 0, u)] [] M 160 [(0, 2, 25)] [(0, r), (0, l), (2, 25)] M' ∧ frx (fun c _ => c = 26) M M' ∧ ∀ j, 0 ≤ j → j < 132 → M' 26 j = cof ink W H j := by
  intro n
  induction n with
  | zero =>
    intro u M hu u0 hc h19 h20 h21 h22 h26
    refine ⟨M, eS.of (fun P HP => ?_), frx.rf, fun j j0 j1 => ?_⟩
    · refine rh1.of (rX16_prepare_79 hh _ _ _ _ hy ?_)
      rw [h19, h21]
      exact ⟨hw, fun z => by omega, fun _ => ⟨hw, hw, HP⟩⟩
    · rw [h26 j j0 j1]
      unfold cof
      by_cases q : l ≤ j ∧ j < u
      · rw [if_pos q, rh_if_t (by omega)]
      · rw [if_neg q]
        by_cases y : 0 ≤ j ∧ j < W
        · rw [rh_if_t y]
          refine (ccn_0 _ (fun v v0 v1 => ?_)).symm
          by_cases z : ink (W * v + j) = 0
          · exact z
          · have := (hbox j v y.1 y.2 v0 (by omega) z).1; omega
        · rw [rh_if_f y]
  | succ n ih =>
    intro u M hu u0 hc h19 h20 h21 h22 h26
    have col : ∀ (m : Nat) (v : Int) (A : rhM), v + m = b → t ≤ v → frx (fun c j => c = 26 ∧ j = u) M A → A 26 u = ccn ink W u v.toNat → ∃ A', eS wh YX16_prepare 2 98 [(0, 2, 25), (2, 0, w), (3, 2, x + 9), (5, 0, u), (6, 0, v)] [] A 98 [(0, 2, 25), (2, 0, w), (3, 2, x + 9), (5, 0, u), (6, 0, b)] [] A' ∧ frx (fun c j => c = 26 ∧ j = u) M A' ∧ A' 26 u = ccn ink W u H.toNat := by
      intro m
      induction m with
      | zero =>
        intro v A hv v0 fA hA
        refine ⟨A, by rw [show v = b by omega]; exact eS.rf, fA, ?_⟩
        rw [hA]
        have := ccn_ge (ink := ink) (W := W) (u := u) (a := v.toNat) (H.toNat - v.toNat) (fun j j0 j1 => by
          by_cases z : ink (W * j + u) = 0
          · exact z
          · have := (hbox u j (by omega) (by omega) (by omega) (by omega) z).2; omega)
        rw [show v.toNat + (H.toNat - v.toNat) = H.toNat by omega] at this
        exact this.symm
      | succ m ihm =>
        intro v A hv v0 fA hA
        have hcA : CtH A x w W H ink := hc.fx (fA _ _ (by omega)) (fA _ _ (by omega)) (fA _ _ (by omega)) (fA.cell (fun j => (by omega))) (fA.cell (fun j => (by omega)))
        have cb := ccn_b ink W u v.toNat
        have e1 : ccn ink W u (v + 1).toNat = ccn ink W u v.toNat + rh_if (ink (W * v + u) ≠ 0) 1 0 := by
          rw [show (v + 1).toNat = v.toNat + 1 by omega, rh_ifd]
          simp only [ccn]
          rw [show (v.toNat : Int) = v by omega]
        obtain ⟨A', e', f', h'⟩ := ihm (v + 1) (rh_set A 26 u (ccn ink W u (v + 1).toNat)) (by omega) (by omega) (fA.st ⟨rfl, rfl⟩) (rh_set_s _ _ _ _)
        refine ⟨A', eS.of (fun P HP => ?_), f', h'⟩
        refine rh1.of (rX16_prepare_98 hh _ _ _ _ _ hy ?_)
        rw [fA _ _ (by omega), h22, hA]
        refine ⟨hw, fun _ => ⟨⟨by omega, by omega⟩, ?_⟩, fun z => by omega⟩
        refine rh1.s (vX16_prepare_122 hh (c_isInk hh hx A hcA (by omega) hN (u := u) (v := v) (by omega) (by omega) (by omega) (by omega)) (LE0 rfl)) ?_
        refine rh1.of (rX16_prepare_125 hh _ _ _ _ _ _ _ _ hy ?_)
        rw [propext if1_ne, ← e1]
        have cb' := ccn_b ink W u (v + 1).toNat
        exact ⟨⟨by omega, by omega⟩, ⟨by omega, by omega⟩, ⟨by omega, by omega⟩, rh1.s e' HP⟩
    obtain ⟨A', e', f', h'⟩ := col (b - t).toNat t M (by omega) (by omega) frx.rf (by
      rw [h26 u (by omega) (by omega), if_neg (by omega)]
      refine (ccn_0 _ (fun j j0 j1 => ?_)).symm
      by_cases z : ink (W * j + u) = 0
      · exact z
      · have := (hbox u j (by omega) (by omega) j0 (by omega) z).2; omega)
    obtain ⟨M', e2, f2, h2⟩ := ih (u + 1) A' (by omega) (by omega) (hc.fx (f' _ _ (by omega)) (f' _ _ (by omega)) (f' _ _ (by omega)) (f'.cell (fun j => (by omega))) (f'.cell (fun j => (by omega)))) (by rw [f' _ _ (by omega), h19]) (by rw [f' _ _ (by omega), h20]) (by rw [f' _ _ (by omega), h21]) (by rw [f' _ _ (by omega), h22]) (fun j j0 j1 => by
      by_cases q : j = u
      · rw [q, h', if_pos (by omega)]
      · rw [f' _ _ (by omega), h26 j j0 j1]
        by_cases y : l ≤ j ∧ j < u
        · rw [if_pos y, if_pos (by omega)]
        · rw [if_neg y, if_neg (by omega)])
    refine ⟨M', ?_, (f'.w (fun c j z => z.1)).tr f2, h2⟩
    refine eS.tr ?_ (e'.tr ?_) (pc' := 98)
    · exact eS.of (fun P HP => by
        refine rh1.of (rX16_prepare_79 hh _ _ _ _ hy ?_)
        rw [h20, h21]
        exact ⟨hw, fun _ => ⟨hw, HP⟩, fun z => by omega⟩)
    · exact eS.of (fun P HP => by
        refine rh1.of (rX16_prepare_98 hh _ _ _ _ _ hy ?_)
        rw [f' _ _ (by omega), h22]
        exact ⟨hw, fun z => by omega, fun _ => ⟨⟨by omega, by omega⟩, rh1.s e2 HP⟩⟩)
/-- the word at hand, on both sides -/
def Prp (M1 M2 : rhM) (x w W H : Int) : Prop := CtH M1 x w W H (M2 11) ∧ (M2 0 17 = W ∧ M2 0 18 = H) ∧
  (∃ l t r b, (0 ≤ l ∧ l < r ∧ r ≤ W) ∧ (0 ≤ t ∧ t < b ∧ b ≤ H) ∧ (b ≤ M2 0 83 ∧ M2 0 83 - M2 0 82 ≤ t) ∧ M1 (x + 9 + 19) w = l ∧ M1 (x + 9 + 20) w = t ∧ M1 (x + 9 + 21) w = r ∧ M1 (x + 9 + 22) w = b ∧ ∀ u v, 0 ≤ u → u < W → 0 ≤ v → v < H → M2 11 (W * v + u) ≠ 0 → (l ≤ u ∧ u < r) ∧ (t ≤ v ∧ v < b)) ∧
  (M1 25 2 = M2 0 82 ∧ 1 ≤ M2 0 82 ∧ M2 0 82 ≤ 96) ∧ (M1 25 3 = M2 0 83 ∧ M2 0 83 ≤ 96) ∧ (∀ u, 0 ≤ u → u ≤ W → M1 26 u = M2 57 u ∧ 0 ≤ M2 57 u ∧ M2 57 u ≤ 96) ∧ M1 25 8 = M2 0 78 ∧ (1 ≤ M2 0 78 ∧ M2 0 78 ≤ 64) ∧ (2 ≤ M2 0 81 ∧ M2 0 81 ≤ 130) ∧ M1 25 7 = (if 16 < M2 0 81 then -1 else M2 0 81 - 1) ∧ PlS M1 M2 W (M2 0 81)
abbrev Fpr (c j : Int) : Prop := (c = 25 ∧ (j ≤ 3 ∨ j = 7 ∨ j = 8)) ∨ (26 ≤ c ∧ c ≤ 30)
abbrev Gpr (c j : Int) : Prop := Giw c j ∨ Gcl c j ∨ c = 60 ∨ c = 61
/-- the runs, on both sides: each begins with ink -/
def Prr (M1 M2 : rhM) (W H : Int) : Prop := M2 0 78 = rnc (cof (M2 11) W H) W.toNat ∧ ∀ r, 0 ≤ r → r < M2 0 78 → M1 29 r = M2 58 r ∧ M1 30 r = M2 59 r ∧ (0 ≤ M2 58 r ∧ M2 58 r < M2 59 r ∧ M2 59 r ≤ W) ∧ ∃ v, 0 ≤ v ∧ v < H ∧ M2 11 (W * v + M2 58 r) ≠ 0
theorem rn_pos {c : Int → Int} (hc : ∀ i, 0 ≤ c i) : ∀ (k : Nat) (r : Int), 0 ≤ r → r < rnc c k → 0 < c (rnf c r k)
  | 0 => fun r r0 r1 => by simp only [rnc] at r1; omega
  | k + 1 => fun r r0 r1 => by
    simp only [rnf]
    by_cases q : rnb c k ∧ rnc c k = r
    · rw [rh_if_t q]; exact ((rnb_i hc k).mp q.1).1
    · rw [rh_if_f q]
      refine rn_pos hc k r r0 ?_
      simp only [rnc] at r1
      by_cases z : rnb c k
      · rw [rh_if_t z] at r1
        have : rnc c k ≠ r := fun e => q ⟨z, e⟩
        omega
      · rw [rh_if_f z] at r1; omega
/-- ink at each side of the box -/
def Tgi (ink : Int → Int) (W H l t r b : Int) : Prop := (∃ u v, ((0 ≤ u ∧ u < W) ∧ (0 ≤ v ∧ v < H) ∧ ink (W * v + u) ≠ 0) ∧ u = l) ∧ (∃ u v, ((0 ≤ u ∧ u < W) ∧ (0 ≤ v ∧ v < H) ∧ ink (W * v + u) ≠ 0) ∧ v = t) ∧ (∃ u v, ((0 ≤ u ∧ u < W) ∧ (0 ≤ v ∧ v < H) ∧ ink (W * v + u) ≠ 0) ∧ u + 1 = r) ∧ (∃ u v, ((0 ≤ u ∧ u < W) ∧ (0 ≤ v ∧ v < H) ∧ ink (W * v + u) ≠ 0) ∧ v + 1 = b)
/-- the model's ink by itself -/
def Pri (wm : rhW) (Mm M2 : rhM) (p w W H : Int) : Prop := (∃ r N, eC wm YX32_inkOfWord 3 [(2, 0), (0, p), (0, w)] Mm r N ∧ N 11 = M2 11 ∧ N 0 17 = W ∧ frx Giw Mm N) ∧ Tgi (M2 11) W H (Mm 40 (80 * p + w)) (Mm 41 (80 * p + w)) (Mm 42 (80 * p + w)) (Mm 43 (80 * p + w))
theorem c_prepareX (hh : rh_hs wh) (hm : rh_ms wm) {p w : Int} (hp : 0 ≤ p ∧ p < 8) {Mh Mm : rhM} (R0 : Rp Mh Mm (251 + 39 * p) p) (hW0 : 0 < Mm 4 p) (S0 : Srch Mh (251 + 39 * p)) (LL : LyL Mh Mm (251 + 39 * p) p) (LW : LyW Mh Mm (251 + 39 * p) p) (hw : 0 ≤ w ∧ w < Mm 26 p) :
    rC2 wh YX16_prepare 2 [(2, 25), (2, 251 + 39 * p), (0, w)] Mh wm YX32_findPlaces 4 [(2, 0), (0, p), (0, w)] Mm (fun r M1 r2 M2 => frx Fpr Mh M1 ∧ frx Gpr Mm M2 ∧ Prp M1 M2 (251 + 39 * p) w (Mm 4 p) (Mm 5 p) ∧ Prr M1 M2 (Mm 4 p) (Mm 5 p) ∧ Pri wm Mm M2 p w (Mm 4 p) (Mm 5 p)) := by
  have hx := hs_pg hh hp.1 hp.2
  have hy : rh_bl wh 1 (251 + 39 * p + 9) 0 := by
    have := hs_ly hh hp.1 hp.2
    rwa [show 260 + 39 * p = 251 + 39 * p + 9 by omega] at this
  have hx2 : 100 ≤ 251 + 39 * p := (by omega)
  have hxp : 251 ≤ 251 + 39 * p ∧ 251 + 39 * p ≤ 524 := ⟨by omega, by omega⟩
  generalize hxx : 251 + 39 * p = x at *
  have R1 := R0
  obtain ⟨a1, a2, a3, a4, a5, a6, a7, a8, a9, -⟩ := R1
  obtain ⟨tot, htot, WD, hmr, -⟩ := LW
  obtain ⟨w1, w2, w3, w4, w5, -⟩ := WD
  have tg := w5 w hw.1 hw.2
  clear w5
  obtain ⟨⟨l, l0, l1, WB⟩, b2, b3, b4, b5, b6⟩ := w3 w hw.1 hw.2
  have LN := LL.2.2 l l0 l1
  have ll60 := LL.2.1
  obtain ⟨c1, c2, ⟨c3, c4, c5, c6⟩, c7, c8, c9⟩ := WB
  obtain ⟨d1, d2, d3, d4, d5, d6, d7, d8, d9⟩ := LN
  clear LL w3
  generalize hWW : Mm 4 p = W at *
  generalize hHH : Mm 5 p = H at *
  refine rC2.of (by decide) (LE0 rfl) (by decide) (LE0 rfl) ?_
  generalize hPost : (fun (r : Int) (M1 : rhM) (r2 : Int) (M2 : rhM) => frx Fpr Mh M1 ∧ frx Gpr Mm M2 ∧ Prp M1 M2 x w W H ∧ Prr M1 M2 W H ∧ Pri wm Mm M2 p w W H) = Post
  replace hmr := Hid.mk hmr
  replace w4 := Hid.mk w4
  replace b5 := Hid.mk b5
  replace b6 := Hid.mk b6
  -- the model
  refine rh2.r (rX32_findPlaces_0 hm _ _ _ ?_)
  obtain ⟨r1, N1, K1, g1, n1, n2, LbM, n31, PP, IK, n83, n82⟩ := c_inkOfWord hm (p := p) (w := w) (l := l) (W := W) (H := H) hp ⟨by omega, by omega⟩ Mm hWW hHH a3 a4 a6 a7 a8 ⟨by omega, by omega⟩ (by omega) (fun j j0 j1 => by
    rw [b5.out j j0 j1]
    have := hmr.out (Mh (x + 9 + 17) w + j) (by omega) (by omega)
    obtain ⟨lab, cnt, s1, s2, s3, -⟩ := S0
    have nb := min300_b s1.2.2.2.2.2
    rw [← s3] at nb
    omega) c2 ⟨by omega, by omega⟩ d8
  refine rh2.sr (vX32_findPlaces_3 hm K1 (LE0 rfl)) ?_
  obtain ⟨N2, K2, g2, e81, e57, e78, e59⟩ := m_cols hm (W := W) (H := H) N1 n1 n2 hW0 a4 a5 a6 a8
  refine rh2.sr K2 ?_
  -- ink
  obtain ⟨lab, cnt, s1, s2, s3, s4, s5⟩ := S0
  rw [a1, a2] at s1 s2 s4 s5
  have LbH : Lb W (W * H) (mcol Mm p) True lab cnt := s1.cols (fun k hk => by
    have := R0.2.2.2.2.2.2.2.2.2 k hk.1 (by rw [hWW, hHH]; exact hk.2)
    unfold hcol mcol
    rw [this.1]
    by_cases z : Mm 3 (6144 * p + k) < 128
    · rw [rh_if_t z]; exact ⟨fun _ => z, fun _ => rfl⟩
    · rw [rh_if_f z]; exact ⟨fun y => absurd y (by decide), fun y => absurd y z⟩)
  have labs := LbH.one LbM
  have cnts := LbH.nums LbM
  have hran := LbM.1
  have nb := min300_b LbM.2.2.2.2.2
  rw [← n31] at nb
  have enp : Mh x 6 = N1 0 31 := by rw [s3, cnts, n31]
  have hnp300 : N1 0 31 = min300 (N1 0 19) := n31
  rw [enp] at w4 hmr s4
  generalize hnp : N1 0 31 = np at *
  have lab300 : ∀ k, 0 ≤ k → k < W * H → (N1 9 k < 300 ↔ N1 9 k < np) := fun k k0 k1 => by
    have := (hran k ⟨k0, k1⟩).2.2
    rw [hnp300]
    unfold min300
    split <;> omega
  have ikH : ∀ k, 0 ≤ k → k < W * H → (Mh (x + 2) k ≠ -1 → 0 ≤ Mh (x + 2) k ∧ Mh (x + 2) k < 300) ∧ ((Mh (x + 2) k ≠ -1 ∧ Mh (x + 9 + 23) (Mh (x + 2) k) = w) ↔ N1 11 k ≠ 0) := fun k k0 k1 => by
    have r1 := (hran k ⟨k0, k1⟩).2
    have e := s4 k ⟨k0, k1⟩
    rw [labs k ⟨k0, k1⟩] at e
    have l3 := lab300 k k0 k1
    rw [(IK k k0 k1).2, e]
    by_cases q : N1 9 k < np
    · rw [if_pos q]
      refine ⟨fun z => ⟨by omega, by omega⟩, ?_⟩
      constructor
      · rintro ⟨y1, y2⟩
        refine ⟨y1, l3.mpr q, ?_⟩
        obtain ⟨q', q0, q1, q2⟩ := ((w4.out (N1 9 k) (by omega) q).2.2 w hw.1 hw.2).mp y2
        refine ⟨q' - Mh (x + 9 + 17) w, (by omega), (by omega), ?_⟩
        rw [b5.out _ (by omega) (by omega), show Mh (x + 9 + 17) w + (q' - Mh (x + 9 + 17) w) = q' by omega, q2]
      · rintro ⟨y1, y2, j, j0, j1, y3⟩
        refine ⟨y1, ((w4.out (N1 9 k) (by omega) q).2.2 w hw.1 hw.2).mpr ⟨Mh (x + 9 + 17) w + j, (by omega), (by omega), ?_⟩⟩
        rw [← b5.out j j0 j1, y3]
    · rw [if_neg q]
      exact ⟨fun z => absurd rfl z, fun z => absurd rfl z.1, fun z => absurd (l3.mp z.2.1) q⟩
  -- ink lies in the word's box
  have hbox : ∀ u v, 0 ≤ u → u < W → 0 ≤ v → v < H → N1 11 (W * v + u) ≠ 0 → (Mm 40 (80 * p + w) ≤ u ∧ u < Mm 42 (80 * p + w)) ∧ (Mm 41 (80 * p + w) ≤ v ∧ v < Mm 43 (80 * p + w)) := fun u v u0 u1 v0 v1 hi => by
    have kb := mul_lt u0 u1 v0 v1
    have k0 := Int.mul_nonneg (show 0 ≤ W by omega) v0
    have dx := dm_x (v := v) u0 u1
    generalize hk : W * v + u = k at *
    obtain ⟨y1, y2, j, j0, j1, y3⟩ := (IK k (by omega) kb).2.mp hi
    have r1 := (hran k ⟨by omega, kb⟩).2
    have q := (lab300 k (by omega) kb).mp y2
    have P := PP (N1 9 k) (by omega) q
    obtain ⟨p1, p2, -, -, -, p6⟩ := P
    have p3 := p2 k ⟨by omega, kb⟩ rfl
    have h6 := b6.out (Mh (x + 9 + 17) w + j) (by omega) (by omega)
    have em := b5.out j j0 j1
    rw [y3] at em
    rw [← em] at h6
    obtain ⟨t1, t2⟩ := s5 (N1 9 k) (by omega) (by rw [enp]; exact q)
    have t3 := (t2.labs labs).one (PP (N1 9 k) (by omega) q)
    obtain ⟨-, t4, t5, t6, t7⟩ := t3
    rw [t4, t5, t6, t7] at h6
    have d4 := dm_b hW0 p1.1.1 p1.1.2
    have fk : N1 22 (N1 9 k) / W ≤ k / W := Int.ediv_le_ediv hW0 p3.1
    rw [dx.1, dx.2] at p3
    rw [dx.2] at fk
    omega
  have anyink : ∃ k, 0 ≤ k ∧ k < W * H ∧ N1 11 k ≠ 0 := by
    have m0 := hmr.out (Mh (x + 9 + 17) w) (by omega) (by omega)
    obtain ⟨p1, -⟩ := PP (Mh (x + 9 + 15) (Mh (x + 9 + 17) w)) m0.1 m0.2
    refine ⟨_, p1.1.1, p1.1.2, (IK _ p1.1.1 p1.1.2).2.mpr ?_⟩
    rw [p1.2]
    refine ⟨by omega, by omega, 0, (by omega), (by omega), ?_⟩
    rw [b5.out 0 (by omega) (by omega), Int.add_zero]
  have pix : ∀ q, Mh (x + 9 + 17) w ≤ q → q < Mh (x + 9 + 18) w → ∀ k, 0 ≤ k → k < W * H → N1 9 k = Mh (x + 9 + 15) q → N1 11 k ≠ 0 := fun q q0 q1 k k0 k1 hk => by
    have m0 := hmr.out q (by omega) (by omega)
    refine (IK k k0 k1).2.mpr ?_
    rw [hk]
    refine ⟨by omega, by omega, q - Mh (x + 9 + 17) w, (by omega), (by omega), ?_⟩
    rw [b5.out _ (by omega) (by omega), show Mh (x + 9 + 17) w + (q - Mh (x + 9 + 17) w) = q by omega]
  have box : ∀ q, Mh (x + 9 + 17) w ≤ q → q < Mh (x + 9 + 18) w → ∃ f, Pq W (W * H) (N1 9) (Mh (x + 9 + 15) q) f (Mh (x + 5) (Mh (x + 9 + 15) q)) (Mh (x + 6) (Mh (x + 9 + 15) q)) (Mh (x + 7) (Mh (x + 9 + 15) q)) (Mh (x + 8) (Mh (x + 9 + 15) q)) := fun q q0 q1 => by
    have m0 := hmr.out q (by omega) (by omega)
    obtain ⟨t1, t2⟩ := s5 (Mh (x + 9 + 15) q) m0.1 (by rw [enp]; exact m0.2)
    exact ⟨_, t2.labs labs⟩
  have tgt : Tgi (N1 11) W H (Mm 40 (80 * p + w)) (Mm 41 (80 * p + w)) (Mm 42 (80 * p + w)) (Mm 43 (80 * p + w)) := by
    obtain ⟨⟨qa, qa0, qa1, qa2⟩, ⟨qb, qb0, qb1, qb2⟩, ⟨qc, qc0, qc1, qc2⟩, ⟨qd, qd0, qd1, qd2⟩⟩ := tg
    have at_ : ∀ q, Mh (x + 9 + 17) w ≤ q → q < Mh (x + 9 + 18) w → ∀ k, 0 ≤ k → k < W * H → N1 9 k = Mh (x + 9 + 15) q → ((0 ≤ k % W ∧ k % W < W) ∧ (0 ≤ k / W ∧ k / W < H) ∧ N1 11 (W * (k / W) + k % W) ≠ 0) := fun q q0 q1 k k0 k1 hk => by
      have d := dm_b hW0 k0 k1
      refine ⟨d.1, d.2, ?_⟩
      rw [← dm k W]
      exact pix q q0 q1 k k0 k1 hk
    refine ⟨?_, ?_, ?_, ?_⟩
    · obtain ⟨f, -, -, ⟨k, k0, k1, k2⟩, -⟩ := box qa qa0 qa1
      exact ⟨k % W, k / W, at_ qa qa0 qa1 k k0.1 k0.2 k1, by rw [k2, qa2]⟩
    · obtain ⟨f, ⟨k0, k1⟩, -, -, -, -, k2⟩ := box qb qb0 qb1
      exact ⟨f % W, f / W, at_ qb qb0 qb1 f k0.1 k0.2 k1, by rw [← k2, qb2]⟩
    · obtain ⟨f, -, -, -, ⟨k, k0, k1, k2⟩, -⟩ := box qc qc0 qc1
      exact ⟨k % W, k / W, at_ qc qc0 qc1 k k0.1 k0.2 k1, by rw [k2, qc2]; omega⟩
    · obtain ⟨f, -, -, -, -, ⟨k, k0, k1, k2⟩, -⟩ := box qd qd0 qd1
      exact ⟨k % W, k / W, at_ qd qd0 qd1 k k0.1 k0.2 k1, by rw [k2, qd2]; omega⟩
  clear IK PP LbM LbH s1 s4 s5 w4 b5 b6 hmr labs lab300 hran tg pix box
  replace tgt := Hid.mk tgt
  replace ikH := Hid.mk ikH
  replace hbox := Hid.mk hbox
  -- the house
  refine rh2.l (rX16_prepare_0 hh _ _ _ hx ?_)
  rintro _ rfl
  have z25 : ∀ v1 v2 : Int, rh_set (rh_set Mh 25 0 v1) 25 1 v2 (x + 25) w = l := fun v1 v2 => by rw [rh_set_a (by omega), rh_set_a (by omega), show x + 25 = x + 9 + 16 by omega, c1]
  rw [z25]
  have lr : 0 ≤ l ∧ l < 60 := ⟨by omega, by omega⟩
  have z11 : ∀ v1 v2 : Int, rh_set (rh_set Mh 25 0 v1) 25 1 v2 (x + 9 + 11) l = Mm 35 (60 * p + l) := fun v1 v2 => by rw [rh_set_a (by omega), rh_set_a (by omega), d3]
  have z10 : ∀ v1 v2 : Int, rh_set (rh_set Mh 25 0 v1) 25 1 v2 (x + 9 + 10) l = Mm 34 (60 * p + l) := fun v1 v2 => by rw [rh_set_a (by omega), rh_set_a (by omega), d2]
  rw [z11, z10]
  refine ⟨⟨by omega, by omega⟩, lr, lr, ⟨by omega, by omega⟩, ?_⟩
  rintro _ rfl
  refine ⟨lr, ?_⟩
  have z20 : ∀ v1 v2 v3 : Int, rh_set (rh_set (rh_set Mh 25 0 v1) 25 1 v2) 25 2 v3 (x + 20) l = Mm 35 (60 * p + l) := fun v1 v2 v3 => by rw [rh_set_a (by omega), rh_set_a (by omega), rh_set_a (by omega), show x + 20 = x + 9 + 11 by omega, d3]
  rw [z20]
  rintro _ rfl
  generalize hMa : rh_set (rh_set (rh_set (rh_set Mh 25 0 x) 25 1 w) 25 2 (Mm 35 (60 * p + l) - Mm 34 (60 * p + l))) 25 3 (Mm 35 (60 * p + l)) = Ma
  have fa : frx (fun c j => c = 25 ∧ j ≤ 3 ∧ 0 ≤ j) Mh Ma := by rw [← hMa]; exact (((frx.rf.st (by omega)).st (by omega)).st (by omega)).st (by omega)
  have ma0 : Ma 25 0 = x := by rw [← hMa]; simp (disch := omega) only [rh_set_j, rh_set_s]
  have ma1 : Ma 25 1 = w := by rw [← hMa]; simp (disch := omega) only [rh_set_j, rh_set_s]
  have ma2 : Ma 25 2 = Mm 35 (60 * p + l) - Mm 34 (60 * p + l) := by rw [← hMa]; simp (disch := omega) only [rh_set_j, rh_set_s]
  have ma3 : Ma 25 3 = Mm 35 (60 * p + l) := by rw [← hMa]; simp (disch := omega) only [rh_set_s]
  have zero : ∀ (n : Nat) (u : Int) (A : rhM), u + n = 132 → 0 ≤ u → frx (fun c _ => c = 26) Ma A → (∀ j, 0 ≤ j → j < u → A 26 j = 0) → ∃ A', eS wh YX16_prepare 2 47 [(0, 2, 25), (2, 0, w), (3, 2, x + 9), (5, 0, u)] [] A 79 [(0, 2, 25), (2, 0, w), (3, 2, x + 9), (5, 0, Mm 40 (80 * p + w))] [] A' ∧ frx (fun c _ => c = 26) Ma A' ∧ ∀ j, 0 ≤ j → j < 132 → A' 26 j = 0 := by
    intro n
    induction n with
    | zero =>
      intro u A hu u0 fA hA
      refine ⟨A, eS.of (fun P HP => ?_), fA, fun j j0 j1 => hA j j0 (by omega)⟩
      refine rh1.of (rX16_prepare_47 hh _ _ _ _ hy ?_)
      rw [fA _ _ (by omega), fa _ _ (by omega), c3]
      exact ⟨fun z => by omega, fun _ => ⟨⟨by omega, by omega⟩, HP⟩⟩
    | succ n ihn =>
      intro u A hu u0 fA hA
      obtain ⟨A', e', f', h'⟩ := ihn (u + 1) (rh_set A 26 u 0) (by omega) (by omega) (fA.st rfl) (fun j j0 j1 => by
        rw [rh_sets, if_pos rfl]
        split
        · rfl
        · exact hA j j0 (by omega))
      refine ⟨A', eS.of (fun P HP => ?_), f', h'⟩
      refine rh1.of (rX16_prepare_47 hh _ _ _ _ hy ?_)
      exact ⟨fun _ => ⟨⟨by omega, by omega⟩, ⟨by omega, by omega⟩, rh1.s e' HP⟩, fun z => by omega⟩
  obtain ⟨Mb, e1, fb, hb0⟩ := zero 132 0 Ma (by omega) (by omega) frx.rf (fun j j0 j1 => by omega)
  refine rh2.sl e1 ?_
  have CT : CtH Mb x w W H (N1 11) := by
    refine ⟨by rw [fb _ _ (by omega), ma0], by rw [fb _ _ (by omega), ma1], by rw [fb _ _ (by omega), fa _ _ (by omega), a1], ?_⟩
    rw [fb.cell (a := x + 2) (fun j => (by omega)), fa.cell (a := x + 2) (fun j => (by omega)), fb.cell (a := x + 32) (fun j => (by omega)), fa.cell (a := x + 32) (fun j => (by omega)), show x + 32 = x + 9 + 23 by omega]
    exact ikH.out
  obtain ⟨Mc, e2, fc, hcc⟩ := h_cols hh (l := Mm 40 (80 * p + w)) (t := Mm 41 (80 * p + w)) (r := Mm 42 (80 * p + w)) (b := Mm 43 (80 * p + w)) hx hy hx2 hW0 a4 a6 a8 (w := w) ⟨by omega, by omega⟩ c7 c8 hbox.out (Mm 42 (80 * p + w) - Mm 40 (80 * p + w)).toNat (Mm 40 (80 * p + w)) Mb (by omega) (by omega) CT (by rw [fb _ _ (by omega), fa _ _ (by omega), c3]) (by rw [fb _ _ (by omega), fa _ _ (by omega), c4]) (by rw [fb _ _ (by omega), fa _ _ (by omega), c5]) (by rw [fb _ _ (by omega), fa _ _ (by omega), c6]) (fun j j0 j1 => by rw [hb0 j j0 j1, if_neg (by omega)])
  refine rh2.sl e2 ?_
  have hcz := cof_0 (N1 11) W H
  have hcout : ∀ u, ¬ (Mm 40 (80 * p + w) ≤ u ∧ u < Mm 42 (80 * p + w)) → cof (N1 11) W H u = 0 := fun u hu => by
    unfold cof
    by_cases y : 0 ≤ u ∧ u < W
    · rw [rh_if_t y]
      refine ccn_0 _ (fun v v0 v1 => ?_)
      by_cases z : N1 11 (W * v + u) = 0
      · exact z
      · exact absurd (hbox.out u v y.1 y.2 v0 (by omega) z).1 hu
    · rw [rh_if_f y]
  have hcb : ∀ u, cof (N1 11) W H u ≤ 96 := fun u => by
    unfold cof
    by_cases y : 0 ≤ u ∧ u < W
    · rw [rh_if_t y]; have := (ccn_b (N1 11) W u H.toNat).2; omega
    · rw [rh_if_f y]; omega
  have npos : 0 < rnc (cof (N1 11) W H) W.toNat := by
    obtain ⟨k, k0, k1, k2⟩ := anyink
    have db := dm_b hW0 k0 k1
    have e0 := dm k W
    refine rnc_pos hcz (j := (k % W).toNat) ?_ (by omega)
    rw [show ((k % W).toNat : Int) = k % W by omega]
    unfold cof
    rw [rh_if_t db.1]
    exact ccn_pos db.2.1 (by rw [← e0]; exact k2) _ (by omega)
  have nle := rnc_b hcz W.toNat
  have wle := rnw_b (c := cof (N1 11) W H) W.toNat
  obtain ⟨r3, Md, E3, fd, h8, hrd⟩ := c_findRuns hh (W := W) (a := (Mm 40 (80 * p + w)).toNat) (b := (Mm 42 (80 * p + w)).toNat) (c := cof (N1 11) W H) Mc (by omega) (by omega) hcz hcc (fun j j0 j1 => hcout j (fun z => by omega))
  rw [show ((Mm 40 (80 * p + w)).toNat : Int) = Mm 40 (80 * p + w) by omega, show ((Mm 42 (80 * p + w)).toNat : Int) = Mm 42 (80 * p + w) by omega] at E3
  refine rh2.sl (vX16_prepare_160 hh E3 (LE0 rfl)) ?_
  refine rh2.l (rX16_prepare_163 hh _ ?_)
  have ge := rn_ge (c := cof (N1 11) W H) (a := (Mm 42 (80 * p + w)).toNat) (W.toNat - (Mm 42 (80 * p + w)).toNat) (fun j j0 j1 => hcout j (fun z => by omega))
  rw [show (Mm 42 (80 * p + w)).toNat + (W.toNat - (Mm 42 (80 * p + w)).toNat) = W.toNat by omega] at ge
  have iv := rn_inv hcz W.toNat
  generalize hcf : cof (N1 11) W H = cf at *
  obtain ⟨r4, Me, r5, N5, A4, A5, f4, g5, m81, m7, PL⟩ := c_places hh hm (n := rnc cf W.toNat) (W := W) (h := Mm 35 (60 * p + l) - Mm 34 (60 * p + l)) (c := cf) (F := fun r => rnf cf r W.toNat) (E := fun r => rne cf r W.toNat) Md N2 a4 ⟨by omega, by omega⟩ (by rw [h8, ← ge.1]) e78 (fun r t0 t1 => by
    obtain ⟨v1, v2⟩ := hrd r t0 (by rw [← ge.1]; exact t1)
    obtain ⟨v3, v4⟩ := e59 r t0 t1
    have v5 := iv.1 r t0 t1
    rw [v1, v2, v3, v4, ← (ge.2 r).1, ← (ge.2 r).2]
    exact ⟨rfl, rfl, rfl, rfl, v5.1, v5.2.1, (by omega)⟩) (fun r t0 t1 => iv.2.1 r t0 t1) (fun u u0 u1 => by rw [fd _ _ (by omega)]; exact hcc u u0 u1) e57 (by rw [fd _ _ (by omega), fc _ _ (by omega), fb _ _ (by omega), ma2]) (by rw [g2 _ _ (by omega), n82]) e81
  have E4 : eC wh YX16_findPlaces 1 [(2, 25)] Md r4 Me := eC.of (by decide) (LE0 rfl) A4
  refine rh2.sl (vX16_prepare_164 hh E4 (LE0 rfl)) ?_
  refine rh2.l (rX16_prepare_167 hh _ ?_)
  refine ⟨r5, N5, A5, ?_⟩
  rw [← hPost]
  have q1 : ∀ c j, (c ≠ 26 ∧ c ≠ 27 ∧ c ≠ 28 ∧ c ≠ 29 ∧ c ≠ 30 ∧ c ≠ 25) → Me c j = Mh c j := fun c j h => by rw [f4 _ _ (by omega), fd _ _ (by omega), fc _ _ (by omega), fb _ _ (by omega), fa _ _ (by omega)]
  have q2 : ∀ j, j ≠ 7 → j ≠ 8 → Me 25 j = Ma 25 j := fun j h1 h2 => by rw [f4 _ _ (by omega), fd _ _ (by omega), fc _ _ (by omega), fb _ _ (by omega)]
  have q3 : ∀ j, N5 11 j = N1 11 j := fun j => by rw [g5 _ _ (by omega), g2 _ _ (by omega)]
  have q3' : N5 11 = N1 11 := funext q3
  have q4 : ∀ j, j ≠ 81 → j ≠ 78 → N5 0 j = N1 0 j := fun j h1 h2 => by rw [g5 _ _ (by omega), g2 _ _ (by omega)]
  refine ⟨((((fa.w (fun c j h => by unfold Fpr; omega)).tr (fb.w (fun c j h => by unfold Fpr; omega))).tr (fc.w (fun c j h => by unfold Fpr; omega))).tr (fd.w (fun c j h => by unfold Fpr; omega))).tr (f4.w (fun c j h => by unfold Fpr; omega)), ((g1.w (fun c j h => .inl h)).tr (g2.w (fun c j h => .inr (.inl h)))).tr (g5.w (fun c j h => ?_)), ?_, ?_⟩
  · rcases h with h | h | h
    · exact .inr (.inr (.inl h))
    · exact .inr (.inr (.inr h))
    · exact .inr (.inl (by unfold Gcl; omega))
  · refine ⟨?_, ⟨by rw [q4 17 (by omega) (by omega), n1], by rw [q4 18 (by omega) (by omega), n2]⟩, ⟨_, _, _, _, c7, c8, ?_, ?_, ?_, ?_, ?_, ?_⟩, ⟨?_, ?_⟩, ⟨?_, ?_⟩, fun u u0 u1 => ⟨?_, ?_⟩, ?_, ?_, m81, m7, PL⟩
    · rw [q3']
      refine CT.fx ?_ ?_ ?_ (funext (fun j => ?_)) (funext (fun j => ?_))
      · rw [f4 _ _ (by omega), fd _ _ (by omega), fc _ _ (by omega)]
      · rw [f4 _ _ (by omega), fd _ _ (by omega), fc _ _ (by omega)]
      · rw [f4 _ _ (by omega), fd _ _ (by omega), fc _ _ (by omega)]
      · rw [f4 _ _ (by omega), fd _ _ (by omega), fc _ _ (by omega)]
      · rw [f4 _ _ (by omega), fd _ _ (by omega), fc _ _ (by omega)]
    · rw [q4 83 (by omega) (by omega), q4 82 (by omega) (by omega), n83, n82]; omega
    · rw [q1 _ _ (by omega), c3]
    · rw [q1 _ _ (by omega), c4]
    · rw [q1 _ _ (by omega), c5]
    · rw [q1 _ _ (by omega), c6]
    · rw [q3']; exact hbox.out
    · rw [q2 2 (by omega) (by omega), ma2, q4 82 (by omega) (by omega), n82]
    · rw [q4 82 (by omega) (by omega), n82]; omega
    · rw [q2 3 (by omega) (by omega), ma3, q4 83 (by omega) (by omega), n83]
    · rw [q4 83 (by omega) (by omega), n83]; omega
    · rw [f4 _ _ (by omega), fd _ _ (by omega), hcc u u0 (by omega), g5 _ _ (by omega), e57 u u0 u1]
    · rw [g5 _ _ (by omega), e57 u u0 u1]; exact ⟨hcz u, hcb u⟩
    · rw [f4 _ _ (by omega), h8, g5 _ _ (by omega), e78, ge.1]
    · rw [g5 _ _ (by omega), e78]; omega
  · refine ⟨?_, ⟨r1, N1, K1, q3'.symm, n1, g1⟩, by rw [q3']; exact tgt.out⟩
    have e8 : N5 0 78 = rnc cf W.toNat := by rw [g5 _ _ (by omega)]; exact e78
    refine ⟨by rw [q3', hcf]; exact e8, ?_⟩
    intro r t0 t1
    rw [e8] at t1
    obtain ⟨v1, v2⟩ := hrd r t0 (by rw [← ge.1]; exact t1)
    obtain ⟨v3, v4⟩ := e59 r t0 t1
    have v5 := iv.1 r t0 t1
    have y1 : Me 29 r = rnf cf r W.toNat := by rw [f4 _ _ (by omega), v1, ← (ge.2 r).1]
    have y2 : Me 30 r = rne cf r W.toNat := by rw [f4 _ _ (by omega), v2, ← (ge.2 r).2]
    have y3 : N5 58 r = rnf cf r W.toNat := by rw [g5 _ _ (by omega), v3]
    have y4 : N5 59 r = rne cf r W.toNat := by rw [g5 _ _ (by omega), v4]
    rw [y1, y2, y3, y4, q3']
    refine ⟨rfl, rfl, ⟨v5.1, v5.2.1, (by omega)⟩, ?_⟩
    have pos := rn_pos hcz W.toNat r t0 t1
    generalize rnf cf r W.toNat = F at *
    have F1 : 0 ≤ F ∧ F < W := ⟨by omega, by omega⟩
    rw [← hcf] at pos
    unfold cof at pos
    rw [rh_if_t F1] at pos
    refine Classical.byContradiction (fun no => ?_)
    have := ccn_0 (ink := N1 11) (W := W) (u := F) H.toNat (fun j j0 j1 => Classical.byContradiction (fun z => no ⟨j, j0, (by omega), z⟩))
    omega
theorem c_prepareR (hh : rh_hs wh) (hm : rh_ms wm) {p w : Int} (hp : 0 ≤ p ∧ p < 8) {Mh Mm : rhM} (R0 : Rp Mh Mm (251 + 39 * p) p) (hW0 : 0 < Mm 4 p) (S0 : Srch Mh (251 + 39 * p)) (LL : LyL Mh Mm (251 + 39 * p) p) (LW : LyW Mh Mm (251 + 39 * p) p) (hw : 0 ≤ w ∧ w < Mm 26 p) :
    rC2 wh YX16_prepare 2 [(2, 25), (2, 251 + 39 * p), (0, w)] Mh wm YX32_findPlaces 4 [(2, 0), (0, p), (0, w)] Mm (fun r M1 r2 M2 => frx Fpr Mh M1 ∧ frx Gpr Mm M2 ∧ Prp M1 M2 (251 + 39 * p) w (Mm 4 p) (Mm 5 p) ∧ Prr M1 M2 (Mm 4 p) (Mm 5 p)) := by
  obtain ⟨r, M1, r2, M2, K1, K2, f1, f2, P, Q, -⟩ := c_prepareX hh hm hp R0 hW0 S0 LL LW hw
  exact ⟨r, M1, r2, M2, K1, K2, f1, f2, P, Q⟩
theorem c_prepare (hh : rh_hs wh) (hm : rh_ms wm) {p w : Int} (hp : 0 ≤ p ∧ p < 8) {Mh Mm : rhM} (R0 : Rp Mh Mm (251 + 39 * p) p) (hW0 : 0 < Mm 4 p) (S0 : Srch Mh (251 + 39 * p)) (LL : LyL Mh Mm (251 + 39 * p) p) (LW : LyW Mh Mm (251 + 39 * p) p) (hw : 0 ≤ w ∧ w < Mm 26 p) :
    rC2 wh YX16_prepare 2 [(2, 25), (2, 251 + 39 * p), (0, w)] Mh wm YX32_findPlaces 4 [(2, 0), (0, p), (0, w)] Mm (fun r M1 r2 M2 => frx Fpr Mh M1 ∧ frx Gpr Mm M2 ∧ Prp M1 M2 (251 + 39 * p) w (Mm 4 p) (Mm 5 p)) := by
  obtain ⟨r, M1, r2, M2, K1, K2, f1, f2, P, -⟩ := c_prepareR hh hm hp R0 hW0 S0 LL LW hw
  exact ⟨r, M1, r2, M2, K1, K2, f1, f2, P⟩
end Prepare
