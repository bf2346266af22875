/-! ===== LAYER 2: apply ===== -/
section Apply
variable {wh wm : rhW}
/-- the rules -/
def Rru (A B : rhM) : Prop := A 221 0 = B 0 231 ∧ (0 ≤ B 0 231 ∧ B 0 231 ≤ 12) ∧ ∀ q, 0 ≤ q → q < B 0 231 → (A 226 q = B 183 q ∧ 1 ≤ B 183 q ∧ B 183 q ≤ 12) ∧ (∀ s, 0 ≤ s → s < B 183 q → A 225 (12 * q + s) = B 182 (12 * q + s)) ∧ (A 227 q = B 184 q ∧ (B 184 q = 64 ∨ B 184 q = 62 ∨ B 184 q = 60 ∨ B 184 q = 118 ∨ B 184 q = 94)) ∧ ((A 228 q = 119 ∧ B 185 q = 0) ∨ (A 228 q = 110 ∧ B 185 q = 1))
theorem Sm_cg {p p' t t' : Int → Int} {n m : Int} (hp : ∀ i, 0 ≤ i → i < n → p i = p' i) (ht : ∀ i, 0 ≤ i → i < m → t i = t' i) : ∀ (r : Nat) (j : Int), (r : Int) ≤ n → 0 ≤ j → (Sm p t n m r j ↔ Sm p' t' n m r j)
  | 0, j, _, _ => Iff.rfl
  | r + 1, j, hr, j0 => by
    have e := hp (n - (r + 1)) (by omega) (by omega)
    constructor
    · rintro (⟨q, j', a1, a2, a3⟩ | ⟨q, a1, a2, a3⟩)
      · exact .inl ⟨by rw [← e]; exact q, j', a1, a2, (Sm_cg hp ht r j' (by omega) (by omega)).mp a3⟩
      · exact .inr ⟨by rw [← e]; exact q, a1, by rw [← e, ← ht j j0 a1]; exact a2, (Sm_cg hp ht r (j + 1) (by omega) (by omega)).mp a3⟩
    · rintro (⟨q, j', a1, a2, a3⟩ | ⟨q, a1, a2, a3⟩)
      · exact .inl ⟨by rw [e]; exact q, j', a1, a2, (Sm_cg hp ht r j' (by omega) (by omega)).mpr a3⟩
      · exact .inr ⟨by rw [e]; exact q, a1, by rw [e, ht j j0 a1]; exact a2, (Sm_cg hp ht r (j + 1) (by omega) (by omega)).mpr a3⟩
def Fap (c j : Int) : Prop := (c = 221 ∧ (j = 10 ∨ j = 11)) ∨ (229 ≤ c ∧ c ≤ 232)
def Gap (c j : Int) : Prop := (c = 0 ∧ (j = 0 ∨ j = 246 ∨ j = 247 ∨ j = 251)) ∨ (192 ≤ c ∧ c ≤ 195)
/-- of rule q: the same field on both sides -/
def Fnd (A B : rhM) (q : Int) : Prop := A 229 q = B 193 q ∧ (B 193 q ≠ -1 → A 230 q = B 194 q ∧ A 231 q = B 195 q)
theorem t_apq (hh : rh_hs wh) (hm : rh_ms wm) {Mh Mm : rhM} {r n q : Int} (RA : RdA Mh Mm) (RB : RdB Mh Mm) (RC : RdC Mh Mm) (RO : RdO Mm) (RU : Rru Mh Mm) (hr : 0 ≤ r ∧ r < 4) (hw : Mm 113 r ≠ 0) (hn : Mm 114 r = n) (hq : 0 ≤ q ∧ q < Mm 0 231) : ∀ (u : Nat) (i y : Int) (A B : rhM), i + u = n → 0 ≤ i → (0 ≤ y ∧ y ≤ 1000) → frx Fap Mh A → frx Gap Mm B → A 229 q = -1 → B 193 q = -1 → ∃ y' A' B', eS wh YX27_apply 4 30 [(0, 2, 221), (1, 2, 563 + 18 * r), (2, 0, y), (3, 0, q), (4, 0, i)] [] A 12 [(0, 2, 221), (1, 2, 563 + 18 * r), (2, 0, y'), (3, 0, q + 1)] [] A' ∧ eS wm YX32_apply 2 56 [(0, 2, 0), (1, 0, r), (2, 0, y), (3, 0, q), (4, 0, i)] [] B 38 [(0, 2, 0), (1, 0, r), (2, 0, y'), (3, 0, q + 1)] [] B' ∧ (y ≤ y' ∧ y' ≤ y + 1) ∧ frx (fun c j => (c = 221 ∧ j = 11) ∨ (229 ≤ c ∧ c ≤ 231 ∧ j = q) ∨ c = 232) A A' ∧ frx (fun c j => (c = 0 ∧ (j = 246 ∨ j = 247)) ∨ c = 192 ∨ (193 ≤ c ∧ c ≤ 195 ∧ j = q)) B B' ∧ Fnd A' B' q := by
  obtain ⟨ru1, ru2, ru3⟩ := RU
  obtain ⟨⟨p1, p2, p3⟩, p4, ⟨p5, p6⟩, p7⟩ := ru3 q hq.1 hq.2
  obtain ⟨x, hxx⟩ : ∃ x, x = 563 + 18 * r := ⟨_, rfl⟩
  rw [← hxx]
  have hx : rh_bl wh 2 x 0 := by rw [hxx]; exact hs_rd hh hr.1 hr.2
  obtain ⟨-, rr⟩ := RA r hr.1 hr.2
  obtain ⟨w1, w2, w3⟩ := rr hw
  rw [hn] at w1 w2 w3
  obtain ⟨o1, o2, o3, -⟩ := RO r hr.1 hr.2 hw
  rw [hn] at o1 o2 o3
  have RBr := RB r hr.1 hr.2 hw
  rw [hn] at RBr
  have T : ∀ {A B : rhM}, frx Fap Mh A → frx Gap Mm B → Trg A B x r n := fun {A B} f g => by
    have a : ∀ c j, 563 ≤ c → A c j = Mh c j := fun c j h => f c j (by unfold Fap; omega)
    have b : ∀ c j, 113 ≤ c → c ≤ 128 → B c j = Mm c j := fun c j h1 h2 => g c j (by unfold Gap; omega)
    refine ⟨by rw [a _ _ (by omega), hxx, w1], by rw [b _ _ (by decide) (by decide), hn], w2, fun i i0 i1 => ?_, fun i i0 i1 => ?_, fun i j i0 i1 i2 => ?_, fun i j k i0 i1 i2 i3 => ?_⟩
    · obtain ⟨⟨z1, -, z3, -⟩, z4, z5, -⟩ := RBr i i0 i1
      rw [← hxx] at z1 z3 z4 z5
      rw [Int.add_zero] at z1
      rw [a _ _ (by omega), a _ _ (by omega), a _ _ (by omega), a _ _ (by omega), b _ _ (by decide) (by decide), b _ _ (by decide) (by decide), b _ _ (by decide) (by decide), b _ _ (by decide) (by decide)]
      exact ⟨⟨z1, z3⟩, z4, z5⟩
    · rw [b _ _ (by decide) (by decide), b _ _ (by decide) (by decide)]
      obtain ⟨z1, -, z3, -⟩ := o1 i i0 i1
      exact ⟨z1, z3⟩
    · rw [b _ _ (by decide) (by decide), b _ _ (by decide) (by decide)]
      exact o2 i j i0 i1 i2
    · rw [b _ _ (by decide) (by decide), b _ _ (by decide) (by decide), b _ _ (by decide) (by decide)]
      exact o3 i j k i0 i1 i2 i3
  -- a word shown
  have shown : ∀ i, 0 ≤ i → i < n → (1 ≤ wsz Mm (80 * r + i) ∧ wsz Mm (80 * r + i) ≤ 12) := fun i i0 i1 => by
    obtain ⟨-, z2, -⟩ := w3 i i0 i1
    have z3 := z2 0 (by decide) (by have := (w3 i i0 i1).1; omega)
    obtain ⟨-, s2, -⟩ := RC r hr.1 hr.2 hw i i0 (by rw [hn]; exact i1)
    unfold wsz
    by_cases y : Mm 123 (80 * r + i) = 1
    · rw [rh_if_t y]; exact (s2 y).2.1
    · rw [rh_if_f y]
      have := z3.2.1
      rw [Int.add_zero (4 * (80 * r + i))] at this
      exact this.2
  have rowOf : ∀ i, 0 ≤ i → i < n → ∃ xr a m, rh_bl wh 4 xr m ∧ (563 ≤ xr) ∧ (0 ≤ a ∧ a < m ∧ m ≤ 320) ∧ xr = rh_if (Mh (x + 11) i = 1) (x + 12) (x + 3) ∧ a = rh_if (Mh (x + 11) i = 1) i (4 * i) ∧ Mh (xr + 2) a = wsz Mm (80 * r + i) ∧ ∀ t, 0 ≤ t → t < wsz Mm (80 * r + i) → Mh (xr + 1) (12 * a + t) = wch Mm (80 * r + i) t := fun i i0 i1 => by
    obtain ⟨xr, a, m, h1, h2, h3, h4, h5, h6, h7⟩ := h_row hh RA RB RC hr hw ⟨i0, by rw [hn]; exact i1⟩
    rw [← hxx] at h4 h5
    exact ⟨xr, a, m, h1, h2.1, h3, h4, h5, h6, h7⟩
  intro u
  induction u with
  | zero =>
    intro i y A B hi i0 hy f g a9 b9
    refine ⟨y, A, B, eS.of (fun P HP => ?_), eS.of (fun P HP => ?_), ⟨by omega, by omega⟩, frx.rf, frx.rf, ⟨by rw [a9, b9], fun z => absurd b9 z⟩⟩
    · refine rh1.of (rX27_apply_30 hh _ _ _ _ _ hx ?_)
      have e1 : A x 1 = n := (T f g).1
      rw [e1]
      exact ⟨fun z => by omega, fun z => by omega, fun _ => ⟨⟨by omega, by omega⟩, HP⟩⟩
    · refine rh1.of (rX32_apply_56 hm _ _ _ _ _ ?_)
      have e1 : B 114 r = n := (T f g).2.1
      rw [e1]
      exact ⟨hr, fun z => by omega, fun z => by omega, fun _ => ⟨⟨by omega, by omega⟩, HP⟩⟩
  | succ u ih =>
    intro i y A B hi i0 hy f g a9 b9
    have i1 : i < n := by omega
    have TT := T f g
    have a : ∀ c j, 563 ≤ c → A c j = Mh c j := fun c j h => f c j (by unfold Fap; omega)
    have af : ∀ c j, 222 ≤ c → c ≤ 228 → A c j = Mh c j := fun c j h1 h2 => f c j (by unfold Fap; omega)
    have bf : ∀ c j, 113 ≤ c → c ≤ 191 → B c j = Mm c j := fun c j h1 h2 => g c j (by unfold Gap; omega)
    have wB : ∀ k, wsz B k = wsz Mm k ∧ ∀ t, wch B k t = wch Mm k t := fun k => wsz_f g (fun c j c0 c1 => by unfold Gap; omega) k
    obtain ⟨xr, ar, mr, r1, r2, r3, r4, r5, r6, r7⟩ := rowOf i i0 i1
    have ss := shown i i0 i1
    obtain ⟨m, hm9⟩ : ∃ m, m = wsz Mm (80 * r + i) := ⟨_, rfl⟩
    rw [← hm9] at ss r6 r7
    obtain ⟨A1, E1, f1⟩ := c_matchH hh (A := A) (q := q) (x := xr) (a := ar) (n := Mm 183 q) (m := m) r1 r2 ⟨by omega, by omega⟩ ⟨r3.1, r3.2.1⟩ ⟨p2, p3⟩ ⟨by omega, by omega⟩ (by rw [af _ _ (by decide) (by decide)]; exact p1) (by rw [a _ _ (by omega)]; exact r6)
    obtain ⟨B1, E2, g1⟩ := c_matchM hm (B := B) (q := q) (w := 80 * r + i) (n := (Mm 183 q).toNat) (m := m) ⟨by omega, by omega⟩ ⟨by omega, by omega⟩ (by omega) ⟨by omega, by omega⟩ (by rw [bf _ _ (by decide) (by decide)]; omega) (by rw [(wB _).1, hm9])
    -- the same answer
    obtain ⟨v, hv⟩ : ∃ v, v = rh_if (Sm (fun s => A 225 (12 * q + s)) (fun s => A (xr + 1) (12 * ar + s)) (Mm 183 q) m (Mm 183 q).toNat 0) (1 : Int) 0 := ⟨_, rfl⟩
    have nN : (((Mm 183 q).toNat : Nat) : Int) = Mm 183 q := by omega
    have ve : rh_if (Pm (fun s => B 182 (12 * q + s)) (fun s => wch B (80 * r + i) s) (Mm 183 q).toNat m) (1 : Int) 0 = v := by
      rw [hv]
      refine if_cg ?_
      rw [mt_e (by omega), nN]
      exact Sm_cg (fun s s0 s1 => by rw [bf _ _ (by decide) (by decide), af _ _ (by decide) (by decide)]; exact (p4 s s0 s1).symm) (fun s s0 s1 => by rw [(wB _).2 s, a _ _ (by omega)]; exact (r7 s s0 s1).symm) _ 0 (by omega) (by decide)
    rw [← hv] at E1
    rw [ve] at E2
    have F1 : frx Fap Mh A1 := f.tr (f1.w (fun c j h => by unfold Fap; omega))
    have G1 : frx Gap Mm B1 := g.tr (g1.w (fun c j h => by unfold Gap; omega))
    have TT1 := T F1 G1
    have e11 : A (x + 11) i = Mh (x + 11) i := a _ _ (by omega)
    have goH : ∀ P : Int → rhM → Prop, rh1 wh YX27_apply 4 66 [(0, 2, 221), (1, 2, x), (2, 0, y), (3, 0, q), (4, 0, i)] [(0, v)] A1 P → rh1 wh YX27_apply 4 30 [(0, 2, 221), (1, 2, x), (2, 0, y), (3, 0, q), (4, 0, i)] [] A P := fun P HP => by
      refine rh1.of (rX27_apply_30 hh _ _ _ _ _ hx ?_)
      rw [TT.1, a9, e11, ← r4, ← r5]
      exact ⟨fun _ => ⟨by omega, by omega⟩, fun _ => ⟨⟨by omega, by omega⟩, ⟨by omega, by omega⟩, ⟨by omega, by omega⟩, rh1.s (vX27_apply_63 hh E1 (LE0 rfl)) HP⟩, fun z => absurd ⟨i1, rfl⟩ z⟩
    have goM : ∀ P : Int → rhM → Prop, rh1 wm YX32_apply 2 89 [(0, 2, 0), (1, 0, r), (2, 0, y), (3, 0, q), (4, 0, i)] [(0, v)] B1 P → rh1 wm YX32_apply 2 56 [(0, 2, 0), (1, 0, r), (2, 0, y), (3, 0, q), (4, 0, i)] [] B P := fun P HP => by
      refine rh1.of (rX32_apply_56 hm _ _ _ _ _ ?_)
      rw [TT.2.1, b9]
      exact ⟨hr, fun _ => ⟨by omega, by omega⟩, fun _ => rh1.s (eS.fx 0 (x := 80 * r + i) rfl ⟨by omega, by omega⟩ rfl) (rh1.s (vX32_apply_86 hm E2 (LE0 rfl)) HP), fun z => absurd ⟨i1, rfl⟩ z⟩
    have a91 : A1 229 q = -1 := by rw [f1 229 q (by omega)]; exact a9
    have b91 : B1 193 q = -1 := by rw [g1 193 q (by omega)]; exact b9
    -- going on
    have on : ∀ (A2 B2 : rhM), frx (fun c j => (c = 221 ∧ j = 11) ∨ c = 232) A A2 → frx (fun c j => (c = 0 ∧ (j = 246 ∨ j = 247)) ∨ c = 192) B B2 → (∀ P : Int → rhM → Prop, rh1 wh YX27_apply 4 30 [(0, 2, 221), (1, 2, x), (2, 0, y), (3, 0, q), (4, 0, i + 1)] [] A2 P → rh1 wh YX27_apply 4 66 [(0, 2, 221), (1, 2, x), (2, 0, y), (3, 0, q), (4, 0, i)] [(0, v)] A1 P) → (∀ P : Int → rhM → Prop, rh1 wm YX32_apply 2 56 [(0, 2, 0), (1, 0, r), (2, 0, y), (3, 0, q), (4, 0, i + 1)] [] B2 P → rh1 wm YX32_apply 2 89 [(0, 2, 0), (1, 0, r), (2, 0, y), (3, 0, q), (4, 0, i)] [(0, v)] B1 P) → ∃ y' A' B', eS wh YX27_apply 4 30 [(0, 2, 221), (1, 2, x), (2, 0, y), (3, 0, q), (4, 0, i)] [] A 12 [(0, 2, 221), (1, 2, x), (2, 0, y'), (3, 0, q + 1)] [] A' ∧ eS wm YX32_apply 2 56 [(0, 2, 0), (1, 0, r), (2, 0, y), (3, 0, q), (4, 0, i)] [] B 38 [(0, 2, 0), (1, 0, r), (2, 0, y'), (3, 0, q + 1)] [] B' ∧ (y ≤ y' ∧ y' ≤ y + 1) ∧ frx (fun c j => (c = 221 ∧ j = 11) ∨ (229 ≤ c ∧ c ≤ 231 ∧ j = q) ∨ c = 232) A A' ∧ frx (fun c j => (c = 0 ∧ (j = 246 ∨ j = 247)) ∨ c = 192 ∨ (193 ≤ c ∧ c ≤ 195 ∧ j = q)) B B' ∧ Fnd A' B' q := fun A2 B2 h1 h2 h3 h4 => by
      obtain ⟨y', A', B', S1, S2, yb, fr1, fr2, fd⟩ := ih (i + 1) y A2 B2 (by omega) (by omega) hy (f.tr (h1.w (fun c j h => by unfold Fap; omega))) (g.tr (h2.w (fun c j h => by unfold Gap; omega))) (by rw [h1 229 q (by omega)]; exact a9) (by rw [h2 193 q (by omega)]; exact b9)
      exact ⟨y', A', B', (eS.of (fun P HP => goH P (h3 P HP))).tr S1, (eS.of (fun P HP => goM P (h4 P HP))).tr S2, yb, (h1.w (fun c j h => by omega)).tr fr1, (h2.w (fun c j h => by omega)).tr fr2, fd⟩
    by_cases v0 : v = 0
    · refine on A1 B1 (f1.w (fun c j h => by omega)) (g1.w (fun c j h => by omega)) (fun P HP => ?_) (fun P HP => ?_)
      · refine rh1.of (rX27_apply_66 hh _ _ _ _ _ _ hx ?_)
        exact ⟨fun z => absurd v0 z, fun _ => ⟨fun z => absurd rfl z, fun _ => ⟨⟨by omega, by omega⟩, HP⟩⟩⟩
      · refine rh1.of (rX32_apply_89 hm _ _ _ _ _ _ ?_)
        exact ⟨fun z => absurd v0 z, fun _ => ⟨fun z => absurd rfl z, fun z => absurd rfl z.1, fun _ => ⟨fun z => absurd rfl z, fun _ => ⟨⟨by omega, by omega⟩, HP⟩⟩⟩⟩
    obtain ⟨k, K1, K2, kb⟩ := t_target hh hm (A := A1) (B := B1) (x := x) (r := r) (n := n) (i := i) (wv := Mm 184 q) hx TT1 hr ⟨i0, i1⟩ p6
    have a27 : A1 227 q = Mm 184 q := by rw [f1 227 q (by omega), af _ _ (by decide) (by decide), p5]
    have b84 : B1 184 q = Mm 184 q := by rw [g1 184 q (by omega), bf _ _ (by decide) (by decide)]
    have a28 : A1 228 q = Mh 228 q := by rw [f1 228 q (by omega), af _ _ (by decide) (by decide)]
    have b85 : B1 185 q = Mm 185 q := by rw [g1 185 q (by omega), bf _ _ (by decide) (by decide)]
    have tgH : ∀ P : Int → rhM → Prop, rh1 wh YX27_apply 4 81 [(0, 2, 221), (1, 2, x), (2, 0, y), (3, 0, q), (4, 0, i)] [(0, k)] A1 P → rh1 wh YX27_apply 4 66 [(0, 2, 221), (1, 2, x), (2, 0, y), (3, 0, q), (4, 0, i)] [(0, v)] A1 P := fun P HP => by
      refine rh1.of (rX27_apply_66 hh _ _ _ _ _ _ hx ?_)
      rw [a27]
      exact ⟨fun _ => ⟨⟨by omega, by omega⟩, rh1.s (vX27_apply_78 K1 (LE0 rfl)) HP⟩, fun z => absurd v0 z⟩
    have tgM : ∀ P : Int → rhM → Prop, rh1 wm YX32_apply 2 105 [(0, 2, 0), (1, 0, r), (2, 0, y), (3, 0, q), (4, 0, i)] [(0, k)] B1 P → rh1 wm YX32_apply 2 89 [(0, 2, 0), (1, 0, r), (2, 0, y), (3, 0, q), (4, 0, i)] [(0, v)] B1 P := fun P HP => by
      refine rh1.of (rX32_apply_89 hm _ _ _ _ _ _ ?_)
      rw [b84]
      exact ⟨fun _ => ⟨⟨by omega, by omega⟩, rh1.s (vX32_apply_102 hm K2 (LE0 rfl)) HP⟩, fun z => absurd v0 z⟩
    by_cases kn : k = -1
    · refine on A1 B1 (f1.w (fun c j h => by omega)) (g1.w (fun c j h => by omega)) (fun P HP => tgH P ?_) (fun P HP => tgM P ?_)
      · refine rh1.of (rX27_apply_81 hh _ _ _ _ _ _ hx ?_)
        exact ⟨fun z => absurd kn z, fun _ => ⟨⟨by omega, by omega⟩, HP⟩⟩
      · refine rh1.of (rX32_apply_105 hm _ _ _ _ _ _ ?_)
        exact ⟨fun z => absurd kn z, fun z => absurd kn z.1, fun _ => ⟨fun z => absurd kn z, fun _ => ⟨⟨by omega, by omega⟩, HP⟩⟩⟩
    have kb2 : 0 ≤ k ∧ k < n := kb.resolve_left kn
    -- the field is found
    have found : ∀ (A2 B2 : rhM) (yv : Int), frx (fun c j => (c = 221 ∧ j = 11) ∨ c = 232) A A2 → frx (fun c j => (c = 0 ∧ (j = 246 ∨ j = 247)) ∨ c = 192) B B2 → (∀ P : Int → rhM → Prop, rh1 wh YX27_apply 4 30 [(0, 2, 221), (1, 2, x), (2, 0, y + 1), (3, 0, q), (4, 0, i + 1)] [] (rh_set (rh_set (rh_set A2 229 q i) 230 q k) 231 q yv) P → rh1 wh YX27_apply 4 66 [(0, 2, 221), (1, 2, x), (2, 0, y), (3, 0, q), (4, 0, i)] [(0, v)] A1 P) → (∀ P : Int → rhM → Prop, rh1 wm YX32_apply 2 56 [(0, 2, 0), (1, 0, r), (2, 0, y + 1), (3, 0, q), (4, 0, i + 1)] [] (rh_set (rh_set (rh_set B2 193 q i) 194 q k) 195 q yv) P → rh1 wm YX32_apply 2 89 [(0, 2, 0), (1, 0, r), (2, 0, y), (3, 0, q), (4, 0, i)] [(0, v)] B1 P) → ∃ y' A' B', eS wh YX27_apply 4 30 [(0, 2, 221), (1, 2, x), (2, 0, y), (3, 0, q), (4, 0, i)] [] A 12 [(0, 2, 221), (1, 2, x), (2, 0, y'), (3, 0, q + 1)] [] A' ∧ eS wm YX32_apply 2 56 [(0, 2, 0), (1, 0, r), (2, 0, y), (3, 0, q), (4, 0, i)] [] B 38 [(0, 2, 0), (1, 0, r), (2, 0, y'), (3, 0, q + 1)] [] B' ∧ (y ≤ y' ∧ y' ≤ y + 1) ∧ frx (fun c j => (c = 221 ∧ j = 11) ∨ (229 ≤ c ∧ c ≤ 231 ∧ j = q) ∨ c = 232) A A' ∧ frx (fun c j => (c = 0 ∧ (j = 246 ∨ j = 247)) ∨ c = 192 ∨ (193 ≤ c ∧ c ≤ 195 ∧ j = q)) B B' ∧ Fnd A' B' q := fun A2 B2 yv h1 h2 h3 h4 => by
      have e9 : rh_set (rh_set (rh_set A2 229 q i) 230 q k) 231 q yv 229 q = i := by rw [rh_set_a (by decide), rh_set_a (by decide), rh_set_s]
      have e0 : rh_set (rh_set (rh_set A2 229 q i) 230 q k) 231 q yv 230 q = k := by rw [rh_set_a (by decide), rh_set_s]
      have f9 : rh_set (rh_set (rh_set B2 193 q i) 194 q k) 195 q yv 193 q = i := by rw [rh_set_a (by decide), rh_set_a (by decide), rh_set_s]
      have f0 : rh_set (rh_set (rh_set B2 193 q i) 194 q k) 195 q yv 194 q = k := by rw [rh_set_a (by decide), rh_set_s]
      refine ⟨y + 1, rh_set (rh_set (rh_set A2 229 q i) 230 q k) 231 q yv, rh_set (rh_set (rh_set B2 193 q i) 194 q k) 195 q yv, eS.of (fun P HP => goH P (h3 P ?_)), eS.of (fun P HP => goM P (h4 P ?_)), ⟨by omega, by omega⟩, (((h1.w (fun c j h => by omega)).st (.inr (.inl ⟨by decide, by decide, rfl⟩))).st (.inr (.inl ⟨by decide, by decide, rfl⟩))).st (.inr (.inl ⟨by decide, by decide, rfl⟩)), (((h2.w (fun c j h => by omega)).st (.inr (.inr ⟨by decide, by decide, rfl⟩))).st (.inr (.inr ⟨by decide, by decide, rfl⟩))).st (.inr (.inr ⟨by decide, by decide, rfl⟩)), ⟨by rw [e9, f9], fun _ => ⟨by rw [e0, f0], by rw [rh_set_s, rh_set_s]⟩⟩⟩
      · refine rh1.of (rX27_apply_30 hh _ _ _ _ _ hx ?_)
        rw [e9]
        exact ⟨fun _ => ⟨by omega, by omega⟩, fun z => absurd z.2 (by omega), fun _ => ⟨⟨by omega, by omega⟩, HP⟩⟩
      · refine rh1.of (rX32_apply_56 hm _ _ _ _ _ ?_)
        rw [f9]
        exact ⟨hr, fun _ => ⟨by omega, by omega⟩, fun z => absurd z.2 (by omega), fun _ => ⟨⟨by omega, by omega⟩, HP⟩⟩
    rcases p7 with ⟨q1, q2⟩ | ⟨q1, q2⟩
    · -- a word
      refine found A1 B1 0 (f1.w (fun c j h => by omega)) (g1.w (fun c j h => by omega)) (fun P HP => tgH P ?_) (fun P HP => tgM P ?_)
      · refine rh1.of (rX27_apply_81 hh _ _ _ _ _ _ hx ?_)
        rw [a28]
        refine ⟨fun _ => ⟨⟨by omega, by omega⟩, fun z => absurd q1 z, fun _ => ⟨⟨by omega, by omega⟩, ⟨by omega, by omega⟩, ?_⟩⟩, fun z => absurd kn z⟩
        intro M3 hM3
        have e8 : M3 228 q = 119 := by rw [hM3, rh_set_a (by decide), rh_set_a (by decide), a28]; exact q1
        refine ⟨⟨by omega, by omega⟩, ?_⟩
        rw [e8]
        intro w hw9
        rw [rh_if_t rfl] at hw9
        rw [hw9, hM3]
        exact ⟨⟨by omega, by omega⟩, ⟨by omega, by omega⟩, ⟨by omega, by omega⟩, HP⟩
      · refine rh1.of (rX32_apply_105 hm _ _ _ _ _ _ ?_)
        rw [b85, q2]
        refine ⟨fun _ => ⟨by omega, by omega⟩, fun z => absurd rfl z.2, fun _ => ⟨fun _ => ⟨⟨by omega, by omega⟩, fun _ => ⟨⟨by omega, by omega⟩, ⟨by omega, by omega⟩, ?_⟩, fun z => absurd (.inl rfl) z⟩, fun z => absurd kn z⟩⟩
        intro M3 hM3
        have e8 : M3 185 q = 0 := by rw [hM3, rh_set_a (by decide), rh_set_a (by decide), b85]; exact q2
        refine ⟨⟨by omega, by omega⟩, ?_⟩
        rw [e8]
        intro w hw9
        rw [rh_if_f (fun z => z rfl)] at hw9
        rw [hw9, hM3]
        exact ⟨⟨by omega, by omega⟩, ⟨by omega, by omega⟩, ⟨by omega, by omega⟩, HP⟩
    · -- a number
      obtain ⟨xk, ak, mk, s1, s2, s3, s4, s5, s6, s7⟩ := rowOf k kb2.1 kb2.2
      have sk := shown k kb2.1 kb2.2
      obtain ⟨rk, A2, N1, h1, n1⟩ := c_numH hh (A := A1) (x := xk) (a := ak) (m := wsz Mm (80 * r + k)) (t := fun s => wch Mm (80 * r + k) s) s1 s2 ⟨s3.1, s3.2.1⟩ sk (by rw [F1 _ _ (by unfold Fap; omega)]; exact s6) (fun s s0 s1 => by rw [F1 _ _ (by unfold Fap; omega)]; exact s7 s s0 s1)
      have wB1 := wsz_f G1 (fun c j c0 c1 => by unfold Gap; omega) (80 * r + k)
      obtain ⟨B2, N2, h2, n2⟩ := c_numM hm (B := B1) (w := 80 * r + k) (m := wsz Mm (80 * r + k)) (t := fun s => wch Mm (80 * r + k) s) ⟨by omega, by omega⟩ sk wB1.1 (fun s => wB1.2 s)
      have e11k : A1 (x + 11) k = Mh (x + 11) k := F1 _ _ (by unfold Fap; omega)
      have nH : ∀ P : Int → rhM → Prop, rh1 wh YX27_apply 4 120 [(0, 2, 221), (1, 2, x), (2, 0, y), (3, 0, q), (4, 0, i), (5, 0, k)] [(0, rk)] A2 P → rh1 wh YX27_apply 4 66 [(0, 2, 221), (1, 2, x), (2, 0, y), (3, 0, q), (4, 0, i)] [(0, v)] A1 P := fun P HP => tgH P (by
        refine rh1.of (rX27_apply_81 hh _ _ _ _ _ _ hx ?_)
        rw [a28, q1, e11k, ← s4, ← s5]
        exact ⟨fun _ => ⟨⟨by omega, by omega⟩, fun _ => ⟨⟨by omega, by omega⟩, ⟨by omega, by omega⟩, ⟨by omega, by omega⟩, rh1.s (vX27_apply_117 hh N1 (LE0 rfl)) HP⟩, fun z => absurd (by decide) z⟩, fun z => absurd kn z⟩)
      have nM : ∀ P : Int → rhM → Prop, rh1 wm YX32_apply 2 137 [(0, 2, 0), (1, 0, r), (2, 0, y), (3, 0, q), (4, 0, i), (5, 0, k)] [] B2 P → rh1 wm YX32_apply 2 89 [(0, 2, 0), (1, 0, r), (2, 0, y), (3, 0, q), (4, 0, i)] [(0, v)] B1 P := fun P HP => tgM P (by
        refine rh1.of (rX32_apply_105 hm _ _ _ _ _ _ ?_)
        rw [b85, q2]
        exact ⟨fun _ => ⟨by omega, by omega⟩, fun _ => rh1.s (eS.fx 0 (x := 80 * r + k) rfl ⟨by omega, by omega⟩ rfl) (rh1.s (vX32_apply_134 hm N2 (LE0 rfl)) HP), fun z => absurd ⟨kn, by decide⟩ z⟩)
      have ff1 : frx (fun c j => (c = 221 ∧ j = 11) ∨ c = 232) A A2 := (f1.w (fun c j h => .inr h)).tr (h1.w (fun c j h => .inl h))
      have gg1 : frx (fun c j => (c = 0 ∧ (j = 246 ∨ j = 247)) ∨ c = 192) B B2 := (g1.w (fun c j h => .inr h)).tr (h2.w (fun c j h => .inl h))
      have b852 : B2 185 q = 1 := by rw [h2 185 q (by omega), b85, q2]
      have a282 : A2 228 q = 110 := by rw [h1 228 q (by omega), a28, q1]
      rcases n1 with ⟨z1, z2⟩ | ⟨z1, z2⟩
      · rcases n2 with ⟨y1, -⟩ | ⟨-, y2⟩
        · refine on A2 B2 ff1 gg1 (fun P HP => nH P ?_) (fun P HP => nM P ?_)
          · refine rh1.of (rX27_apply_120 hh _ _ _ _ _ _ _ hx ?_)
            exact ⟨fun w => absurd z1 w, fun _ => ⟨⟨by omega, by omega⟩, HP⟩⟩
          · refine rh1.of (rX32_apply_137 hm _ _ _ _ _ _ ?_)
            rw [b852, y1]
            exact ⟨fun _ => ⟨⟨by omega, by omega⟩, fun w => absurd w (by decide), fun _ => ⟨⟨by omega, by omega⟩, HP⟩⟩, fun w => absurd kn w⟩
        · exact absurd y2 (z2 _)
      · rcases n2 with ⟨-, y2⟩ | ⟨y1, y2⟩
        · exact absurd z2 (y2 _)
        · have ev := z2.one y2
          refine found A2 B2 (A2 221 11) ff1 gg1 (fun P HP => nH P ?_) (fun P HP => nM P ?_)
          · refine rh1.of (rX27_apply_120 hh _ _ _ _ _ _ _ hx ?_)
            rw [z1]
            refine ⟨fun _ => ⟨⟨by omega, by omega⟩, ⟨by omega, by omega⟩, ?_⟩, fun w => absurd (by decide) w⟩
            intro M3 hM3
            have e8 : M3 228 q = 110 := by rw [hM3, rh_set_a (by decide), rh_set_a (by decide)]; exact a282
            have e9 : M3 221 11 = A2 221 11 := by rw [hM3, rh_set_a (by decide), rh_set_a (by decide)]
            refine ⟨⟨by omega, by omega⟩, ?_⟩
            rw [e8, e9]
            intro w hw9
            rw [rh_if_f (by decide)] at hw9
            rw [hw9, hM3]
            exact ⟨⟨by omega, by omega⟩, ⟨by omega, by omega⟩, ⟨by omega, by omega⟩, HP⟩
          · refine rh1.of (rX32_apply_137 hm _ _ _ _ _ _ ?_)
            rw [b852, y1]
            refine ⟨fun _ => ⟨⟨by omega, by omega⟩, fun _ => ⟨⟨by omega, by omega⟩, ⟨by omega, by omega⟩, ?_⟩, fun w => absurd (.inr (by decide)) w⟩, fun w => absurd kn w⟩
            intro M3 hM3
            have e8 : M3 185 q = 1 := by rw [hM3, rh_set_a (by decide), rh_set_a (by decide)]; exact b852
            have e9 : M3 0 247 = A2 221 11 := by rw [hM3, rh_set_a (by decide), rh_set_a (by decide), ev]
            refine ⟨⟨by omega, by omega⟩, ?_⟩
            rw [e8, e9]
            intro w hw9
            rw [rh_if_t (by decide)] at hw9
            rw [hw9, hM3]
            exact ⟨⟨by omega, by omega⟩, ⟨by omega, by omega⟩, ⟨by omega, by omega⟩, HP⟩
theorem op_apply (hh : rh_hs wh) (hm : rh_ms wm) {Mh Mm : rhM} (RA : RdA Mh Mm) (RB : RdB Mh Mm) (RC : RdC Mh Mm) (RO : RdO Mm) (RU : Rru Mh Mm) (FL : Rfl Mh Mm) (x1 : Int) : rC2 wh YX1_apply 5 [(2, 0), (0, x1)] Mh wm YX32_apply 2 [(2, 0), (0, x1)] Mm (fun r M' r2 M2' => r = r2 ∧ Rfl M' M2' ∧ frx Fap Mh M' ∧ frx Gap Mm M2') := by
  obtain ⟨M0, hM0⟩ : ∃ M0, M0 = rh_set Mm 0 0 0 := ⟨_, rfl⟩
  have g0 : frx Gap Mm M0 := by rw [hM0]; exact frx.rf.st (by unfold Gap; omega)
  have en : ∀ c k, 0 < c → M0 c k = Mm c k := fun c k h => by rw [hM0]; exact rh_set_a (by omega)
  have e0 : ∀ k, k ≠ 0 → M0 0 k = Mm 0 k := fun k h => by rw [hM0]; exact rh_set_j h
  have is := RA.is x1
  have F0 : Rfl Mh M0 := by
    obtain ⟨q1, q2⟩ := FL
    unfold Rfl
    rw [e0 251 (by decide)]
    refine ⟨q1, fun i i0 i1 => ?_⟩
    rw [en 193 i (by decide), en 194 i (by decide), en 195 i (by decide)]
    exact q2 i i0 i1
  by_cases c : ((0 ≤ x1) ∧ (x1 ≤ 3)) ∧ (Mm 113 x1 ≠ 0)
  case neg =>
    refine ⟨-101, Mh, -101, M0, eC.of1 (rC1.of (by decide) (LE0 rfl) ?_), eC.of1 (rC1.of (by decide) (LE0 rfl) ?_), rfl, F0, frx.rf, g0⟩
    · refine rh1.of (rX1_apply_0 hh _ _ ?_)
      exact ⟨⟨by omega, by omega⟩, fun _ => ⟨by omega, by omega⟩, fun _ => ⟨rfl, rfl⟩, fun z => absurd (is.mp (Classical.byContradiction z)) c⟩
    · refine rh1.of (rX32_apply_0 hm _ _ ?_)
      rw [← hM0, en 113 _ (by decide)]
      exact ⟨fun _ => ⟨by omega, by omega⟩, fun _ => ⟨rfl, rfl⟩, fun z => absurd c z⟩
  have c' := is.mpr c
  obtain ⟨ru1, ru2, ru3⟩ := id RU
  by_cases d : Mm 0 231 = 0
  · refine ⟨-103, Mh, -103, M0, eC.of1 (rC1.of (by decide) (LE0 rfl) ?_), eC.of1 (rC1.of (by decide) (LE0 rfl) ?_), rfl, F0, frx.rf, g0⟩
    · refine rh1.of (rX1_apply_0 hh _ _ ?_)
      rw [ru1]
      exact ⟨⟨by omega, by omega⟩, fun _ => ⟨by omega, by omega⟩, fun z => absurd c' z, fun _ => ⟨fun _ => ⟨rfl, rfl⟩, fun z => absurd d z⟩⟩
    · refine rh1.of (rX32_apply_0 hm _ _ ?_)
      rw [← hM0, en 113 _ (by decide), e0 231 (by decide)]
      exact ⟨fun _ => ⟨by omega, by omega⟩, fun z => absurd c z, fun _ => ⟨fun _ => ⟨rfl, rfl⟩, fun z => absurd d z⟩⟩
  have hr : 0 ≤ x1 ∧ x1 < 4 := ⟨by omega, by omega⟩
  have hx : rh_bl wh 2 (563 + 18 * x1) 0 := hs_rd hh hr.1 hr.2
  obtain ⟨n, hn⟩ : ∃ n, n = Mm 114 x1 := ⟨_, rfl⟩
  obtain ⟨A0, hA0⟩ : ∃ A0, A0 = rh_set Mh 221 10 (Mm 0 231) := ⟨_, rfl⟩
  obtain ⟨B0, hB0⟩ : ∃ B0, B0 = rh_set M0 0 251 (Mm 0 231) := ⟨_, rfl⟩
  have fA0 : frx Fap Mh A0 := by rw [hA0]; exact frx.rf.st (.inl ⟨rfl, .inl rfl⟩)
  have gB0 : frx Gap Mm B0 := by rw [hB0]; exact g0.st (by unfold Gap; omega)
  obtain ⟨-, rr⟩ := RA x1 hr.1 hr.2
  have w2 := (rr c.2).2.1
  rw [← hn] at w2
  have rules : ∀ (u : Nat) (q y : Int) (A B : rhM), q + u = Mm 0 231 → 0 ≤ q → (0 ≤ y ∧ y ≤ q) → frx Fap Mh A → frx Gap Mm B → A 221 10 = Mm 0 231 → B 0 251 = Mm 0 231 → (∀ k, 0 ≤ k → k < q → Fnd A B k) → ∃ y' A' B', eS wh YX27_apply 4 12 [(0, 2, 221), (1, 2, 563 + 18 * x1), (2, 0, y), (3, 0, q)] [] A 12 [(0, 2, 221), (1, 2, 563 + 18 * x1), (2, 0, y'), (3, 0, Mm 0 231)] [] A' ∧ eS wm YX32_apply 2 38 [(0, 2, 0), (1, 0, x1), (2, 0, y), (3, 0, q)] [] B 38 [(0, 2, 0), (1, 0, x1), (2, 0, y'), (3, 0, Mm 0 231)] [] B' ∧ frx Fap Mh A' ∧ frx Gap Mm B' ∧ A' 221 10 = Mm 0 231 ∧ B' 0 251 = Mm 0 231 ∧ ∀ k, 0 ≤ k → k < Mm 0 231 → Fnd A' B' k := by
    intro u
    induction u with
    | zero =>
      intro q y A B hq q0 hy f g a1 b1 fd
      have eq : q = Mm 0 231 := by omega
      rw [eq] at fd ⊢
      exact ⟨y, A, B, eS.rf, eS.rf, f, g, a1, b1, fd⟩
    | succ u ih =>
      intro q y A B hq q0 hy f g a1 b1 fd
      have a0 : A 221 0 = Mm 0 231 := by rw [f 221 0 (by unfold Fap; omega)]; exact ru1
      have b0 : B 0 231 = Mm 0 231 := g 0 231 (by unfold Gap; omega)
      have f' : frx Fap Mh (rh_set A 229 q (-1)) := f.st (by unfold Fap; omega)
      have g' : frx Gap Mm (rh_set B 193 q (-1)) := g.st (by unfold Gap; omega)
      obtain ⟨y1, A1, B1, S1, S2, yb, h1, h2, fd1⟩ := t_apq hh hm RA RB RC RO RU hr c.2 hn.symm ⟨q0, by omega⟩ n.toNat 0 y _ _ (by omega) (by decide) ⟨by omega, by omega⟩ f' g' (rh_set_s _ _ _ _) (rh_set_s _ _ _ _)
      obtain ⟨y', A', B', T1, T2, r⟩ := ih (q + 1) y1 A1 B1 (by omega) (by omega) ⟨by omega, by omega⟩ (f'.tr (h1.w (fun c j h => by unfold Fap; omega))) (g'.tr (h2.w (fun c j h => by unfold Gap; omega))) (by rw [h1 221 10 (by omega), rh_set_a (by decide)]; exact a1) (by rw [h2 0 251 (by omega), rh_set_a (by decide)]; exact b1) (fun k k0 k1 => by
        by_cases z : k = q
        · rw [z]; exact fd1
        · have := fd k k0 (by omega)
          unfold Fnd at this ⊢
          rw [h1 229 k (by omega), h1 230 k (by omega), h1 231 k (by omega), h2 193 k (by omega), h2 194 k (by omega), h2 195 k (by omega), rh_set_j z, rh_set_j z, rh_set_a (by decide), rh_set_a (by decide), rh_set_a (by decide), rh_set_a (by decide)]
          exact this)
      refine ⟨y', A', B', (eS.of (fun P HP => ?_)).tr T1, (eS.of (fun P HP => ?_)).tr T2, r⟩
      · refine rh1.of (rX27_apply_12 hh _ _ _ _ hx ?_)
        rw [a0]
        exact ⟨fun _ => ⟨⟨by omega, by omega⟩, rh1.s S1 HP⟩, fun z => by omega⟩
      · refine rh1.of (rX32_apply_38 hm _ _ _ _ ?_)
        rw [b0]
        exact ⟨fun _ => ⟨⟨by omega, by omega⟩, rh1.s S2 HP⟩, fun z => by omega⟩
  obtain ⟨y', A', B', S1, S2, fA, gB, a1, b1, fd⟩ := rules (Mm 0 231).toNat 0 0 A0 B0 (by omega) (by decide) (by decide) fA0 gB0 (by rw [hA0, rh_set_s]) (by rw [hB0, rh_set_s]) (fun k k0 k1 => by omega)
  have EH : eC wh YX27_apply 4 [(2, 221), (2, 563 + 18 * x1)] Mh y' A' := by
    refine eC.of1 (rC1.of (by decide) (LE0 rfl) ?_)
    refine rh1.of (rX27_apply_0 hh _ _ hx ?_)
    rw [ru1, ← hA0]
    refine rh1.s S1 ?_
    refine rh1.of (rX27_apply_12 hh _ _ _ _ hx ?_)
    rw [fA 221 0 (by unfold Fap; omega), ru1]
    exact ⟨fun z => by omega, fun _ => ⟨rfl, rfl⟩⟩
  refine ⟨y', A', y', B', eC.of1 (rC1.of (by decide) (LE0 rfl) ?_), eC.of1 (rC1.of (by decide) (LE0 rfl) ?_), rfl, ⟨by rw [a1, b1]; exact ⟨rfl, ru2⟩, fun i i0 i1 => fd i i0 (by rw [← b1]; exact i1)⟩, fA, gB⟩
  · refine rh1.of (rX1_apply_0 hh _ _ ?_)
    rw [ru1]
    refine ⟨⟨by omega, by omega⟩, fun _ => ⟨by omega, by omega⟩, fun z => absurd c' z, fun _ => ⟨fun z => absurd z d, fun _ => ⟨hr, rh1.s (vX1_apply_38 hh EH (LE0 rfl)) ?_⟩⟩⟩
    refine rh1.of (rX1_apply_41 hh _ _ ?_)
    exact ⟨rfl, rfl⟩
  · refine rh1.of (rX32_apply_0 hm _ _ ?_)
    rw [← hM0, en 113 _ (by decide), e0 231 (by decide)]
    refine ⟨fun _ => ⟨by omega, by omega⟩, fun z => absurd c z, fun _ => ⟨fun z => absurd z d, fun _ w hw => ?_⟩⟩
    rw [hw, ← hB0]
    refine rh1.s S2 ?_
    refine rh1.of (rX32_apply_38 hm _ _ _ _ ?_)
    rw [gB 0 231 (by unfold Gap; omega)]
    exact ⟨fun z => by omega, fun _ => ⟨rfl, rfl⟩⟩
end Apply
