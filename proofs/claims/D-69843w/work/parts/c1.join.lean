/-! ===== LAYER 2: the model's machine ===== -/
section Join
variable {wh wm : rhW}
theorem MTr.fx {B B' : rhM} {n : Int} {par sg en dp : Int → Int} (H : MTr B n par sg en dp) (h : frx (fun c j => c = 94 ∨ c = 95) B B') : MTr B' n par sg en dp := by
  refine ⟨(h 0 128 (by omega)).trans H.1, fun a a0 a1 => ?_, fun x x0 x1 => ?_⟩
  · rw [h 92 a (by omega), h 93 a (by omega)]; exact H.2.1 a a0 a1
  · rw [h 90 x (by omega), h 91 x (by omega)]; exact H.2.2 x x0 x1
theorem c_sameRests (hm : rh_ms wm) {N : Nat} {a b : Int} {par sg en dp : Int → Int} (B : rhM) (T : Tri N par sg) (H : MTr B N par sg en dp) (hN : N ≤ 1801) (ha : 0 ≤ a ∧ a < N) (hb : 0 ≤ b ∧ b < N) (hC : ∀ x : Int, 1 ≤ x → x < N → 0 ≤ B 94 x) : eC wm YX32_sameRests 1 [(2, 0), (0, a), (0, b)] B (rh_if (Alk N par sg en (B 94) a b) 1 0) B := by
  refine eC.of1 (rC1.of (by decide) (LE0 rfl) ?_)
  generalize hP : (fun (r : Int) (M' : rhM) => r = rh_if (Alk N par sg en (B 94) a b) 1 0 ∧ M' = B) = Post
  have bad : ¬ Alk N par sg en (B 94) a b → Post 0 B := fun h => by rw [← hP, rh_if_f h]; exact ⟨rfl, rfl⟩
  have n1 := T.1
  have w : ∀ (m k : Nat), k + m = N → 1 ≤ k → en a = en b → (∀ x : Int, 1 ≤ x → x < k → par x = a → chd N par sg b (sg x) ≠ -1 ∧ B 94 (chd N par sg b (sg x)) = B 94 x) → rh1 wm YX32_sameRests 1 22 [(0, 2, 0), (1, 0, a), (2, 0, b), (3, 0, nch k par a - nch k par b), (4, 0, (k : Int))] [] B Post := by
    intro m
    induction m with
    | zero =>
      intro k hk k1 he hs
      have e : k = N := (by omega)
      rw [e] at hs ⊢
      refine rh1.of (rX32_sameRests_22 hm _ _ _ _ _ ?_)
      rw [H.1]
      refine ⟨fun z => by omega, fun _ => ?_⟩
      by_cases q : nch N par a - nch N par b = 0
      · have al := alk_of (en := en) (C := B 94) T he hs (by omega)
        rw [← hP, rh_if_t al, rh_if_t q]; exact ⟨rfl, rfl⟩
      · rw [rh_if_f q]
        refine bad (fun al => q ?_)
        have := alk_nch T hC al
        omega
    | succ m ih =>
      intro k hk k1 he hs
      obtain ⟨g1, g2⟩ := H.2.2 k (by omega) (by omega)
      have na := ctp_b (fun j => 1 ≤ j ∧ par j = a) k
      have nb := ctp_b (fun j => 1 ≤ j ∧ par j = b) k
      have ea : ∀ c, nch (k + 1) par c = nch k par c + rh_if (par k = c) 1 0 := fun c => by
        unfold nch
        by_cases q : par k = c
        · rw [rh_if_t q]; exact ctp_t (P := fun j => 1 ≤ j ∧ par j = c) ⟨(by omega), q⟩
        · rw [rh_if_f q, Int.add_zero]; exact ctp_f (P := fun j => 1 ≤ j ∧ par j = c) (fun z => q z.2)
      have rb : 0 ≤ rh_if (par k = b) (1 : Int) 0 ∧ rh_if (par k = b) (1 : Int) 0 ≤ 1 := by
        by_cases q : par k = b
        · rw [rh_if_t q]; omega
        · rw [rh_if_f q]; omega
      have ba : 0 ≤ nch k par a ∧ nch k par a ≤ k := na
      have bb : 0 ≤ nch k par b ∧ nch k par b ≤ k := nb
      refine rh1.of (rX32_sameRests_22 hm _ _ _ _ _ ?_)
      rw [H.1, g1, g2]
      refine ⟨fun _ => ⟨⟨by omega, by omega⟩, fun q => ⟨⟨by omega, by omega⟩, ?_⟩, fun q => ⟨⟨by omega, by omega⟩, ?_⟩⟩, fun z => by omega⟩
      · refine rh1.s (vX32_sameRests_51 hm (c_child hm (a := b) (s := sg k) B n1 H (by omega)) (LE0 rfl)) ?_
        have cb := chd_b (n := N) (par := par) (sg := sg) b (sg k)
        refine rh1.of (rX32_sameRests_54 hm _ _ _ _ _ _ ?_)
        rw [g1]
        refine ⟨fun z => ?_, fun z => ⟨by omega, by omega⟩, fun z => ?_, fun z => ⟨⟨by omega, by omega⟩, ⟨by omega, by omega⟩, ?_⟩⟩
        · have := cb.resolve_left z; exact ⟨by omega, by omega⟩
        · refine bad (fun al => ?_)
          have e := al.2 (sg k)
          have ek := sig_x (C := B 94) T (x := k) (by omega) (by omega)
          rw [q] at ek
          rw [ek] at e
          have ck := hC k (by omega) (by omega)
          unfold sig at e
          rcases z with z | z
          · rw [rh_if_t z] at e; omega
          · by_cases y : chd N par sg b (sg k) = -1
            · rw [rh_if_t y] at e; omega
            · rw [rh_if_f y] at e; exact z e.symm
        · intro x hx
          have zz : chd N par sg b (sg k) ≠ -1 ∧ B 94 (chd N par sg b (sg k)) = B 94 k := ⟨fun y => z (.inl y), Classical.byContradiction (fun y => z (.inr y))⟩
          have I := ih (k + 1) (by omega) (by omega) he (fun y y0 y1 hy => by
            by_cases e : y = k
            · rw [e]; exact zz
            · exact hs y y0 (by omega) hy)
          rw [ea a, ea b, rh_if_t q] at I
          have ex : x = nch k par a + 1 - (nch k par b + rh_if (par k = b) 1 0) := by rw [hx]; omega
          rw [ex]
          exact ⟨⟨by omega, by omega⟩, ⟨by omega, by omega⟩, I⟩
      · intro x hx
        have I := ih (k + 1) (by omega) (by omega) he (fun y y0 y1 hy => by
          by_cases e : y = k
          · rw [e] at hy; exact absurd hy q
          · exact hs y y0 (by omega) hy)
        rw [ea a, ea b, rh_if_f q, Int.add_zero] at I
        have ex : x = nch k par a - (nch k par b + rh_if (par k = b) 1 0) := by rw [hx]; omega
        rw [ex]
        exact ⟨⟨by omega, by omega⟩, ⟨by omega, by omega⟩, I⟩
  refine rh1.of (rX32_sameRests_0 hm _ _ _ ?_)
  rw [(H.2.1 a ha.1 ha.2).1, (H.2.1 b hb.1 hb.2).1]
  refine ⟨⟨by omega, by omega⟩, ⟨by omega, by omega⟩, fun z => bad (fun al => z al.1), fun z => ?_⟩
  have I := w (N - 1) 1 (by omega) (by omega) (Classical.byContradiction z) (fun x x0 x1 => by omega)
  have e : ∀ c, nch 1 par c = 0 := fun c => by
    have := ctp_f (P := fun j => 1 ≤ j ∧ par j = c) (j := 0) (fun z => by have := z.1; omega)
    exact this
  rw [e a, e b] at I
  exact I
/-- heights: of the nodes looked at -/
def Hgt (B : rhM) (N : Nat) (par dp : Int → Int) (Q : Int → Prop) : Prop := (∀ x : Int, 1 ≤ x → x < N → Q x → B 95 x + 1 ≤ B 95 (par x)) ∧ (∀ a : Int, 0 ≤ a → a < N → B 95 a = 0 ∨ ∃ x : Int, 1 ≤ x ∧ x < N ∧ Q x ∧ par x = a ∧ B 95 a = B 95 x + 1) ∧ ∀ a : Int, 0 ≤ a → a < N → 0 ≤ B 95 a ∧ B 95 a + dp a ≤ 12
theorem Hgt.cg {B : rhM} {N : Nat} {par dp : Int → Int} {Q Q' : Int → Prop} (h : Hgt B N par dp Q) (e : ∀ x : Int, 1 ≤ x → x < N → (Q x ↔ Q' x)) : Hgt B N par dp Q' := by
  refine ⟨fun x x0 x1 hx => h.1 x x0 x1 ((e x x0 x1).mpr hx), fun a a0 a1 => ?_, h.2.2⟩
  rcases h.2.1 a a0 a1 with g | ⟨x, x0, x1, x2, x3⟩
  · exact .inl g
  · exact .inr ⟨x, x0, x1, (e x x0 x1).mp x2, x3⟩
theorem m_high (hm : rh_ms wm) {N : Nat} {par sg en dp : Int → Int} (hN : N ≤ 1801) (T : Tri N par sg) (D : DpT N par dp) (dpn : ∀ a : Int, 0 ≤ a → a < N → 0 ≤ dp a) : ∀ (u : Nat) (d : Int) (B : rhM), d = u → d ≤ 12 → MTr B N par sg en dp → Hgt B N par dp (fun x => d < dp x) → ∃ B', eS wm YX32_joinBeginnings 2 33 [(0, 2, 0), (1, 0, d)] [] B 104 [(0, 2, 0), (1, 0, 0)] [] B' ∧ Hgt B' N par dp (fun _ => True) ∧ frx (fun c _ => c = 95) B B' := by
  have n1 := T.1
  intro u
  induction u with
  | zero =>
    intro d B hd d12 G H
    refine ⟨B, eS.of (fun P HP => ?_), H.cg (fun x x0 x1 => ⟨fun _ => trivial, fun _ => ?_⟩), frx.rf⟩
    · refine rh1.of (rX32_joinBeginnings_33 hm _ _ ?_)
      exact ⟨fun z => by omega, fun _ => HP⟩
    · have := D.2 x x0 x1
      have t := (T.2.1 x x0 x1).1
      have := dpn (par x) t.1 (by omega)
      show d < dp x
      omega
  | succ u ih =>
    intro d B hd d12 G H
    have w : ∀ (m k : Nat) (B1 : rhM), k + m = N → 1 ≤ k → frx (fun c _ => c = 95) B B1 → Hgt B1 N par dp (fun x => d < dp x ∨ (dp x = d ∧ x < k)) → ∃ B', eS wm YX32_joinBeginnings 2 39 [(0, 2, 0), (1, 0, d), (2, 0, (k : Int))] [] B1 104 [(0, 2, 0), (1, 0, 0)] [] B' ∧ Hgt B' N par dp (fun _ => True) ∧ frx (fun c _ => c = 95) B B' := by
      intro m
      induction m with
      | zero =>
        intro k B1 hk k1 f H1
        have G1 := G.fx (f.w (fun c j h => .inr h))
        obtain ⟨B', E, H2, f2⟩ := ih (d - 1) B1 (by omega) (by omega) G1 (H1.cg (fun x x0 x1 => ⟨fun z => by rcases z with z | z <;> omega, fun z => by
          by_cases e : dp x = d
          · exact .inr ⟨e, (by omega)⟩
          · exact .inl (by omega)⟩))
        refine ⟨B', eS.of (fun P HP => ?_), H2, f.tr f2⟩
        refine rh1.of (rX32_joinBeginnings_39 hm _ _ _ ?_)
        rw [G1.1, show d + -1 = d - 1 by omega]
        exact ⟨fun z => by omega, fun _ => ⟨⟨by omega, by omega⟩, rh1.s E HP⟩⟩
      | succ m ihm =>
        intro k B1 hk k1 f H1
        have G1 := G.fx (f.w (fun c j h => .inr h))
        obtain ⟨g1, g2⟩ := G1.2.2 k (by omega) (by omega)
        have g3 := (G1.2.1 k (by omega) (by omega)).2
        by_cases q : dp k = d
        · have t := (T.2.1 k (by omega) (by omega)).1
          have dk := D.2 k (by omega) (by omega)
          obtain ⟨h1, h2, h3⟩ := H1
          have hk3 := h3 k (by omega) (by omega)
          have hp3 := h3 (par k) t.1 (by omega)
          obtain ⟨v, hv⟩ : ∃ v, v = rh_if (B1 95 k + 1 < B1 95 (par k)) (B1 95 (par k)) (B1 95 k + 1) := ⟨_, rfl⟩
          have vb : B1 95 (par k) ≤ v ∧ B1 95 k + 1 ≤ v ∧ (v = B1 95 (par k) ∨ v = B1 95 k + 1) := by
            rw [hv]
            by_cases z : B1 95 k + 1 < B1 95 (par k)
            · rw [rh_if_t z]; omega
            · rw [rh_if_f z]; omega
          have vn : ∀ x, dp x ≠ dp (par k) → rh_set B1 95 (par k) v 95 x = B1 95 x := fun x hx => rh_set_j (fun e => hx (by rw [e]))
          have H2 : Hgt (rh_set B1 95 (par k) v) N par dp (fun x => d < dp x ∨ (dp x = d ∧ x < ((k + 1 : Nat) : Int))) := by
            refine ⟨fun x x0 x1 hx => ?_, fun a a0 a1 => ?_, fun a a0 a1 => ?_⟩
            · have hdx : d ≤ dp x := by rcases hx with z | z <;> omega
              rw [vn x (by omega)]
              by_cases e : par x = par k
              · rw [e, rh_set_s]
                by_cases e2 : x = k
                · rw [e2]; exact vb.2.1
                · have := h1 x x0 x1 (by rcases hx with z | z; exact .inl z; exact .inr ⟨z.1, (by omega)⟩)
                  rw [e] at this
                  omega
              · rw [rh_set_j e]
                refine h1 x x0 x1 ?_
                rcases hx with z | z
                · exact .inl z
                · refine .inr ⟨z.1, ?_⟩
                  have : x ≠ k := fun e2 => e (by rw [e2])
                  omega
            · by_cases e : a = par k
              · rw [e, rh_set_s]
                rcases vb.2.2 with z | z
                · rcases h2 (par k) t.1 (by omega) with y | ⟨x, x0, x1, x2, x3, x4⟩
                  · exact .inl (by omega)
                  · have hdx : d ≤ dp x := by rcases x2 with z | z <;> omega
                    exact .inr ⟨x, x0, x1, by rcases x2 with y | y; exact .inl y; exact .inr ⟨y.1, (by omega)⟩, x3, by rw [vn x (by omega)]; omega⟩
                · exact .inr ⟨k, (by omega), (by omega), .inr ⟨q, (by omega)⟩, rfl, by rw [vn k (by omega)]; exact z⟩
              · rw [rh_set_j e]
                rcases h2 a a0 a1 with y | ⟨x, x0, x1, x2, x3, x4⟩
                · exact .inl y
                · have hdx : d ≤ dp x := by rcases x2 with z | z <;> omega
                  exact .inr ⟨x, x0, x1, by rcases x2 with y | y; exact .inl y; exact .inr ⟨y.1, (by omega)⟩, x3, by rw [vn x (by omega)]; exact x4⟩
            · by_cases e : a = par k
              · rw [e, rh_set_s]; omega
              · rw [rh_set_j e]; exact h3 a a0 a1
          obtain ⟨B', E, H3, f3⟩ := ihm (k + 1) (rh_set B1 95 (par k) v) (by omega) (by omega) (f.st rfl) H2
          refine ⟨B', eS.of (fun P HP => ?_), H3, f3⟩
          refine rh1.of (rX32_joinBeginnings_39 hm _ _ _ ?_)
          rw [G1.1, g3, g1]
          refine ⟨fun _ => ⟨⟨by omega, by omega⟩, fun _ => ⟨⟨by omega, by omega⟩, ⟨by omega, by omega⟩, ⟨by omega, by omega⟩, ⟨by omega, by omega⟩, ⟨by omega, by omega⟩, ?_⟩, fun z => absurd q z⟩, fun z => by omega⟩
          intro x hx
          rw [hx, ← hv]
          exact ⟨⟨by omega, by omega⟩, ⟨by omega, by omega⟩, rh1.s E HP⟩
        · obtain ⟨B', E, H3, f3⟩ := ihm (k + 1) B1 (by omega) (by omega) f (H1.cg (fun x x0 x1 => ⟨fun z => by
            rcases z with z | z
            · exact .inl z
            · exact .inr ⟨z.1, (by omega)⟩, fun z => by
            rcases z with z | z
            · exact .inl z
            · refine .inr ⟨z.1, ?_⟩
              have : x ≠ k := fun e => q (by rw [← e]; exact z.1)
              omega⟩))
          refine ⟨B', eS.of (fun P HP => ?_), H3, f3⟩
          refine rh1.of (rX32_joinBeginnings_39 hm _ _ _ ?_)
          rw [G1.1, g3]
          exact ⟨fun _ => ⟨⟨by omega, by omega⟩, fun z => absurd z q, fun _ => ⟨⟨by omega, by omega⟩, rh1.s E HP⟩⟩, fun z => by omega⟩
    obtain ⟨B', E, H2, f2⟩ := w (N - 1) 1 B (by omega) (by omega) frx.rf (H.cg (fun x x0 x1 => ⟨.inl, fun z => by rcases z with z | z <;> omega⟩))
    refine ⟨B', eS.of (fun P HP => ?_), H2, f2⟩
    refine rh1.of (rX32_joinBeginnings_33 hm _ _ ?_)
    exact ⟨fun _ => rh1.s E HP, fun z => by omega⟩
/-- the nodes that are joined: height below h, or h and number below k -/
def Jn (hg C : Int → Int) (N : Nat) (par sg en : Int → Int) (F : Int → Prop) : Prop := (∀ x : Int, 0 ≤ x → x < N → 0 ≤ C x) ∧ (∀ x : Int, 0 ≤ x → x < N → ¬ F x → C x = x) ∧ (∀ x : Int, 0 ≤ x → x < N → F x → (C x ≤ x ∧ C (C x) = C x ∧ hg (C x) = hg x)) ∧ ∀ x y : Int, 0 ≤ x → x < N → 0 ≤ y → y < N → F x → F y → (C x = C y ↔ Alk N par sg en C x y)
theorem hg_al {hg C : Int → Int} {N : Nat} {par sg en : Int → Int} {F : Int → Prop} (T : Tri N par sg) (J : Jn hg C N par sg en F) (h1 : ∀ x : Int, 1 ≤ x → x < N → hg x + 1 ≤ hg (par x)) (h2 : ∀ a : Int, 0 ≤ a → a < N → hg a = 0 ∨ ∃ x : Int, 1 ≤ x ∧ x < N ∧ par x = a ∧ hg a = hg x + 1) (h3 : ∀ a : Int, 0 ≤ a → a < N → 0 ≤ hg a) {a b : Int} (ha : 0 ≤ a ∧ a < N) (hb : 0 ≤ b ∧ b < N) (ca : ∀ x : Int, 1 ≤ x → x < N → par x = a → F x) (cb : ∀ x : Int, 1 ≤ x → x < N → par x = b → F x) (al : Alk N par sg en C a b) : hg a = hg b := by
  have key : ∀ a b : Int, 0 ≤ a → a < N → 0 ≤ b → b < N → (∀ x : Int, 1 ≤ x → x < N → par x = a → F x) → (∀ x : Int, 1 ≤ x → x < N → par x = b → F x) → Alk N par sg en C a b → hg a ≤ hg b := by
    intro a b a0 a1 b0 b1 ca cb al
    rcases h2 a a0 a1 with z | ⟨x, x0, x1, x2, x3⟩
    · have := h3 b b0 b1; omega
    · have e := al.2 (sg x)
      have ex := sig_x (C := C) T x0 x1
      rw [x2] at ex
      rw [ex] at e
      have px := J.1 x (by omega) x1
      rcases chd_b (n := N) (par := par) (sg := sg) b (sg x) with g | g
      · unfold sig at e; rw [rh_if_t g] at e; omega
      · unfold sig at e
        rw [rh_if_f (by omega)] at e
        obtain ⟨g1, g2, g3⟩ := g
        have fx := (J.2.2.1 x (by omega) x1 (ca x x0 x1 x2)).2.2
        have fy := (J.2.2.1 _ (show 0 ≤ chd N par sg b (sg x) by omega) g1.2 (cb _ g1.1 g1.2 g2)).2.2
        have := h1 _ g1.1 g1.2
        rw [g2] at this
        rw [← e, fx] at fy
        omega
  have k1 := key a b ha.1 ha.2 hb.1 hb.2 ca cb al
  have k2 := key b a hb.1 hb.2 ha.1 ha.2 cb ca al.sy
  omega
theorem Jn.nx {hg C C' : Int → Int} {N : Nat} {par sg en : Int → Int} {h k c : Int} (T : Tri N par sg) (h1 : ∀ x : Int, 1 ≤ x → x < N → hg x + 1 ≤ hg (par x)) (h2 : ∀ a : Int, 0 ≤ a → a < N → hg a = 0 ∨ ∃ x : Int, 1 ≤ x ∧ x < N ∧ par x = a ∧ hg a = hg x + 1) (h3 : ∀ a : Int, 0 ≤ a → a < N → 0 ≤ hg a) (J : Jn hg C N par sg en (fun x => hg x < h ∨ (hg x = h ∧ x < k))) (hk : 0 ≤ k ∧ k < N) (hh' : hg k = h) (hC : ∀ x, C' x = if x = k then c else C x) (hc : (c = k ∧ ∀ j : Int, 0 ≤ j → j < k → hg j = h → C j = j → ¬ Alk N par sg en C j k) ∨ ((0 ≤ c ∧ c < k) ∧ hg c = h ∧ C c = c ∧ Alk N par sg en C c k)) : Jn hg C' N par sg en (fun x => hg x < h ∨ (hg x = h ∧ x < k + 1)) := by
  have Ck : C' k = c := by rw [hC, if_pos rfl]
  have Cn : ∀ x, x ≠ k → C' x = C x := fun x hx => by rw [hC, if_neg hx]
  obtain ⟨j1, j2, j3, j4⟩ := J
  have J : Jn hg C N par sg en (fun x => hg x < h ∨ (hg x = h ∧ x < k)) := ⟨j1, j2, j3, j4⟩
  have fc : ∀ {a : Int}, 0 ≤ a → a < N → hg a ≤ h → ∀ x : Int, 1 ≤ x → x < N → par x = a → hg x < h ∨ (hg x = h ∧ x < k) := fun a0 a1 ha x x0 x1 hx => by
    have := h1 x x0 x1
    rw [hx] at this
    exact .inl (by omega)
  have al : ∀ x y : Int, 0 ≤ x → x < N → 0 ≤ y → y < N → hg x ≤ h → hg y ≤ h → (Alk N par sg en C' x y ↔ Alk N par sg en C x y) := fun x y x0 x1 y0 y1 hx hy => Alk.cg (fun z z0 z1 hz => by
    refine Cn z (fun e => ?_)
    have := h1 z z0 z1
    rw [e, hh'] at this
    rcases hz with g | g
    · rw [e] at g; rw [g] at this; omega
    · rw [e] at g; rw [g] at this; omega)
  have c0 : 0 ≤ c := by rcases hc with z | z <;> omega
  have pk : ∀ y : Int, 0 ≤ y → y < N → y ≠ k → (hg y < h ∨ (hg y = h ∧ y < k)) → (c = C y ↔ Alk N par sg en C k y) := fun y y0 y1 yk fy => by
    obtain ⟨u1, u2, u3⟩ := j3 y y0 y1 fy
    have pc := j1 y y0 y1
    rcases hc with ⟨z1, z2⟩ | ⟨z1, z2, z3, z4⟩
    · refine ⟨fun e => ?_, fun a => ?_⟩
      · exfalso
        rw [z1] at e
        rw [← e, hh'] at u3
        rcases fy with g | g <;> omega
      · exfalso
        have hy : hg k = hg y := hg_al T J h1 h2 h3 hk ⟨y0, y1⟩ (fc hk.1 hk.2 (by omega)) (fc y0 y1 (by rcases fy with g | g <;> omega)) a
        have yk2 : y < k := by rcases fy with g | g <;> omega
        have fcy : hg (C y) < h ∨ (hg (C y) = h ∧ C y < k) := .inr ⟨(by omega), (by omega)⟩
        have ay : Alk N par sg en C (C y) y := (j4 (C y) y pc (by omega) y0 y1 fcy fy).mp u2
        exact z2 (C y) pc (by omega) (by omega) u2 (ay.tr a.sy)
    · have fcc : hg c < h ∨ (hg c = h ∧ c < k) := .inr ⟨z2, (by omega)⟩
      have q := j4 c y (by omega) (by omega) y0 y1 fcc fy
      rw [z3] at q
      rw [q]
      exact ⟨fun g => z4.sy.tr g, fun g => z4.tr g⟩
  refine ⟨fun x x0 x1 => ?_, fun x x0 x1 nf => ?_, fun x x0 x1 fx => ?_, fun x y x0 x1 y0 y1 fx fy => ?_⟩
  · by_cases e : x = k
    · rw [e, Ck]; exact c0
    · rw [Cn x e]; exact j1 x x0 x1
  · have e : x ≠ k := fun e => nf (.inr ⟨by rw [e]; exact hh', (by omega)⟩)
    rw [Cn x e]
    exact j2 x x0 x1 (fun z => nf (by rcases z with z | z; exact .inl z; exact .inr ⟨z.1, (by omega)⟩))
  · by_cases e : x = k
    · rw [e, Ck]
      rcases hc with ⟨z1, z2⟩ | ⟨z1, z2, z3, z4⟩
      · rw [z1]; exact ⟨Int.le_refl _, by rw [Ck]; exact z1, rfl⟩
      · exact ⟨(by omega), by rw [Cn c (by omega)]; exact z3, by rw [z2, hh']⟩
    · have fx' : hg x < h ∨ (hg x = h ∧ x < k) := by
        rcases fx with z | z
        · exact .inl z
        · exact .inr ⟨z.1, (by omega)⟩
      obtain ⟨u1, u2, u3⟩ := j3 x x0 x1 fx'
      have ne : C x ≠ k := fun g => by
        rw [g, hh'] at u3
        rcases fx' with z | z <;> omega
      rw [Cn x e, Cn (C x) ne]
      exact ⟨u1, u2, u3⟩
  · have hx : hg x ≤ h := by rcases fx with z | z <;> omega
    have hy : hg y ≤ h := by rcases fy with z | z <;> omega
    rw [al x y x0 x1 y0 y1 hx hy]
    by_cases ex : x = k
    · by_cases ey : y = k
      · rw [ex, ey]; exact ⟨fun _ => Alk.rf _, fun _ => rfl⟩
      · rw [ex, Ck, Cn y ey]
        exact pk y y0 y1 ey (by rcases fy with z | z; exact .inl z; exact .inr ⟨z.1, (by omega)⟩)
    · by_cases ey : y = k
      · rw [ey, Ck, Cn x ex]
        have q := pk x x0 x1 ex (by rcases fx with z | z; exact .inl z; exact .inr ⟨z.1, (by omega)⟩)
        exact ⟨fun g => (q.mp g.symm).sy, fun g => (q.mpr g.sy).symm⟩
      · rw [Cn x ex, Cn y ey]
        exact j4 x y x0 x1 y0 y1 (by rcases fx with z | z; exact .inl z; exact .inr ⟨z.1, (by omega)⟩) (by rcases fy with z | z; exact .inl z; exact .inr ⟨z.1, (by omega)⟩)
end Join
