/-! ===== LAYER 2: the tree of beginnings, on both sides ===== -/
section Build
variable {wh wm : rhW}
/-- the child of a with the least sign above s, or none -/
def Nx (n : Int) (par sg : Int → Int) (a s r : Int) : Prop := (r = -1 ∧ ∀ x, 1 ≤ x → x < n → par x = a → sg x ≤ s) ∨ ((1 ≤ r ∧ r < n) ∧ par r = a ∧ s < sg r ∧ ∀ x, 1 ≤ x → x < n → par x = a → s < sg x → sg r ≤ sg x)
def HTr (M : rhM) (n : Int) (par sg en : Int → Int) : Prop := M 63 9 = n ∧ (∀ a, 0 ≤ a → a < n → Nx n par sg a 0 (M 71 a) ∧ M 73 a = en a) ∧ ∀ x, 1 ≤ x → x < n → M 70 x = sg x ∧ Nx n par sg (par x) (sg x) (M 72 x)
def MTr (M : rhM) (n : Int) (par sg en dp : Int → Int) : Prop := M 0 128 = n ∧ (∀ a, 0 ≤ a → a < n → M 92 a = en a ∧ M 93 a = dp a) ∧ ∀ x, 1 ≤ x → x < n → M 90 x = par x ∧ M 91 x = sg x
def DpT (n : Int) (par dp : Int → Int) : Prop := dp 0 = 0 ∧ ∀ x, 1 ≤ x → x < n → dp x = dp (par x) + 1 ∧ dp x ≤ 12
theorem Tri.up {n a s : Int} {par sg : Int → Int} (T : Tri n par sg) (ha : 0 ≤ a ∧ a < n) (hs : 33 ≤ s ∧ s ≤ 126) (hc : chd n par sg a s = -1) : Tri (n + 1) (upz par n a) (upz sg n s) := by
  refine ⟨by have := T.1; omega, fun k k0 k1 => ?_, fun j k j0 jk k1 h => ?_⟩
  · by_cases e : k = n
    · rw [e, upz_s, upz_s]; exact ⟨ha, hs⟩
    · rw [upz_n e, upz_n e]; exact T.2.1 k k0 (by omega)
  · rw [upz_n (show j ≠ n by omega)] at h ⊢
    by_cases e : k = n
    · rw [e, upz_s] at h ⊢; exact chd_n hc j0 (by omega) h
    · rw [upz_n e] at h ⊢; exact T.2.2 j k j0 jk (by omega) h
theorem Nx.up {n a s c u r : Int} {par sg : Int → Int} (h : Nx n par sg c u r) (hq : ¬ (c = a ∧ u < s ∧ (r = -1 ∨ s < sg r))) : Nx (n + 1) (upz par n a) (upz sg n s) c u r := by
  rcases h with ⟨h1, h2⟩ | ⟨h1, h2, h3, h4⟩
  · refine .inl ⟨h1, fun x x0 x1 hx => ?_⟩
    by_cases e : x = n
    · rw [e, upz_s] at hx
      rw [e, upz_s]
      by_cases z : u < s
      · exact absurd ⟨hx.symm, z, .inl h1⟩ hq
      · omega
    · rw [upz_n e] at hx ⊢; exact h2 x x0 (by omega) hx
  · have er : r ≠ n := (by omega)
    refine .inr ⟨⟨by omega, by omega⟩, by rw [upz_n er]; exact h2, by rw [upz_n er]; exact h3, fun x x0 x1 hx hs => ?_⟩
    rw [upz_n er]
    by_cases e : x = n
    · rw [e, upz_s] at hx hs ⊢
      by_cases z : s < sg r
      · exact absurd ⟨hx.symm, hs, .inr z⟩ hq
      · omega
    · rw [upz_n e] at hx hs ⊢; exact h4 x x0 (by omega) hx hs
theorem newH {A A' : rhM} {n a s p b k : Int} {par sg en : Int → Int} (T : Tri n par sg) (H : HTr A n par sg en) (ha : 0 ≤ a ∧ a < n) (hs : 33 ≤ s ∧ s ≤ 126) (hp : 0 ≤ p ∧ p < s) (hk : Nx n par sg a p k) (hk2 : k = -1 ∨ s < sg k) (hb : (b = -1 ∧ p = 0) ∨ ((1 ≤ b ∧ b < n) ∧ par b = a ∧ sg b = p)) (e1 : A' 63 9 = n + 1) (e2 : ∀ j, A' 70 j = if j = n then s else A 70 j) (e3 : ∀ j, A' 71 j = if j = n then -1 else if b = -1 ∧ j = a then n else A 71 j) (e4 : ∀ j, A' 72 j = if j = n then k else if ¬ b = -1 ∧ j = b then n else A 72 j) (e5 : ∀ j, A' 73 j = if j = n then 0 else A 73 j) : HTr A' (n + 1) (upz par n a) (upz sg n s) (upz en n 0) := by
  obtain ⟨H1, H2, H3⟩ := H
  have above : ∀ x, 1 ≤ x → x < n → par x = a → p < sg x → s < sg x := fun x x0 x1 hx hs' => by
    rcases hk with ⟨q1, q2⟩ | ⟨q1, q2, q3, q4⟩
    · have := q2 x x0 x1 hx; omega
    · have := q4 x x0 x1 hx hs'; omega
  have Nn : ∀ u, 0 ≤ u → u = p → Nx (n + 1) (upz par n a) (upz sg n s) a u n := fun u u0 eu => by
    refine .inr ⟨by have := T.1; exact ⟨by omega, by omega⟩, upz_s, by rw [upz_s]; omega, fun x x0 x1 hx hs' => ?_⟩
    rw [upz_s]
    by_cases e : x = n
    · rw [e, upz_s]; omega
    · rw [upz_n e] at hx hs' ⊢
      have := above x x0 (by omega) hx (by omega)
      omega
  refine ⟨e1, fun c c0 c1 => ⟨?_, ?_⟩, fun x x0 x1 => ⟨?_, ?_⟩⟩
  · rw [e3]
    by_cases z : c = n
    · rw [if_pos z, z]
      refine .inl ⟨rfl, fun x x0 x1 hx => ?_⟩
      by_cases e : x = n
      · rw [e, upz_s] at hx; omega
      · rw [upz_n e] at hx
        have := (T.2.1 x x0 (by omega)).1
        omega
    · rw [if_neg z]
      by_cases y : b = -1 ∧ c = a
      · rw [if_pos y, y.2]
        refine Nn 0 (Int.le_refl _) ?_
        rcases hb with hb | hb
        · exact hb.2.symm
        · omega
      · rw [if_neg y]
        refine (H2 c c0 (by omega)).1.up (fun q => ?_)
        obtain ⟨q1, q2, q3⟩ := q
        rcases hb with hb | hb
        · exact y ⟨hb.1, q1⟩
        · have sb := (T.2.1 b hb.1.1 hb.1.2).2
          rcases (H2 c c0 (by omega)).1 with ⟨g1, g2⟩ | ⟨g1, g2, g3, g4⟩
          · have := g2 b hb.1.1 hb.1.2 (by rw [q1]; exact hb.2.1)
            omega
          · have := g4 b hb.1.1 hb.1.2 (by rw [q1]; exact hb.2.1) (by omega)
            omega
  · rw [e5]
    by_cases z : c = n
    · rw [if_pos z, z, upz_s]
    · rw [if_neg z, upz_n z]; exact (H2 c c0 (by omega)).2
  · rw [e2]
    by_cases z : x = n
    · rw [if_pos z, z, upz_s]
    · rw [if_neg z, upz_n z]; exact (H3 x x0 (by omega)).1
  · rw [e4]
    by_cases z : x = n
    · rw [if_pos z, z, upz_s, upz_s]
      rcases hk with ⟨q1, q2⟩ | ⟨q1, q2, q3, q4⟩
      · refine .inl ⟨q1, fun y y0 y1 hy => ?_⟩
        by_cases e : y = n
        · rw [e, upz_s]; omega
        · rw [upz_n e] at hy ⊢
          have := q2 y y0 (by omega) hy
          omega
      · have ek : k ≠ n := (by omega)
        refine .inr ⟨⟨by omega, by omega⟩, by rw [upz_n ek]; exact q2, by rw [upz_n ek]; omega, fun y y0 y1 hy hs' => ?_⟩
        rw [upz_n ek]
        by_cases e : y = n
        · rw [e, upz_s] at hs'; omega
        · rw [upz_n e] at hy hs' ⊢
          exact q4 y y0 (by omega) hy (by omega)
    · rw [if_neg z, upz_n z, upz_n z]
      by_cases y : ¬ b = -1 ∧ x = b
      · rw [if_pos y, y.2]
        rcases hb with hb | hb
        · exact absurd hb.1 y.1
        · rw [hb.2.1, hb.2.2]; exact Nn p hp.1 rfl
      · rw [if_neg y]
        refine (H3 x x0 (by omega)).2.up (fun q => ?_)
        obtain ⟨q1, q2, q3⟩ := q
        have sx := (T.2.1 x x0 (by omega)).2
        have lp : sg x ≤ p := by
          by_cases l : p < sg x
          · have := above x x0 (by omega) q1 l; omega
          · omega
        rcases hb with hb | hb
        · omega
        · have ne : x ≠ b := fun e => y ⟨by omega, e⟩
          have nes : sg x ≠ sg b := by
            by_cases l : x < b
            · exact T.2.2 x b x0 l hb.1.2 (q1.trans hb.2.1.symm)
            · exact fun e => T.2.2 b x hb.1.1 (by omega) (by omega) (hb.2.1.trans q1.symm) e.symm
          rcases (H3 x x0 (by omega)).2 with ⟨g1, g2⟩ | ⟨g1, g2, g3, g4⟩
          · have := g2 b hb.1.1 hb.1.2 (hb.2.1.trans q1.symm)
            omega
          · have := g4 b hb.1.1 hb.1.2 (hb.2.1.trans q1.symm) (by omega)
            omega
def Fbd (c j : Int) : Prop := (c = 63 ∧ 9 ≤ j ∧ j ≤ 11) ∨ (70 ≤ c ∧ c ≤ 75)
theorem c_childOf (hh : rh_hs wh) {n a s : Int} {par sg en : Int → Int} (A : rhM) (T : Tri n par sg) (H : HTr A n par sg en) (ha : 0 ≤ a ∧ a < n) (hs : 33 ≤ s ∧ s ≤ 126) (hn : n < 1802) :
    rC1 wh YX18_childOf 1 [(2, 63), (0, a), (0, s)] A (fun r M' => (chd n par sg a s ≠ -1 → r = chd n par sg a s ∧ M' = A) ∧ (chd n par sg a s = -1 → r = n ∧ HTr M' (n + 1) (upz par n a) (upz sg n s) (upz en n 0) ∧ frx Fbd A M')) := by
  refine rC1.of (by decide) (LE0 rfl) ?_
  have n1 := T.1
  have w : ∀ (m : Nat) (p b k : Int), s - p ≤ m → 0 ≤ p → p < s → Nx n par sg a p k → ((b = -1 ∧ p = 0) ∨ ((1 ≤ b ∧ b < n) ∧ par b = a ∧ sg b = p)) → rh1 wh YX18_childOf 1 10 [(0, 2, 63), (1, 0, a), (2, 0, s), (3, 0, b), (4, 0, k)] [] A (fun r M' => (chd n par sg a s ≠ -1 → r = chd n par sg a s ∧ M' = A) ∧ (chd n par sg a s = -1 → r = n ∧ HTr M' (n + 1) (upz par n a) (upz sg n s) (upz en n 0) ∧ frx Fbd A M')) := by
    intro m
    induction m with
    | zero => intro p b k h0 h1 h2; omega
    | succ m ih =>
      intro p b k h0 p0 ps hk hb
      have fresh : (k = -1 ∨ s < sg k) → rh1 wh YX18_childOf 1 10 [(0, 2, 63), (1, 0, a), (2, 0, s), (3, 0, b), (4, 0, k)] [] A (fun r M' => (chd n par sg a s ≠ -1 → r = chd n par sg a s ∧ M' = A) ∧ (chd n par sg a s = -1 → r = n ∧ HTr M' (n + 1) (upz par n a) (upz sg n s) (upz en n 0) ∧ frx Fbd A M')) := by
        intro q
        have kr : k ≠ -1 → (0 ≤ k ∧ k < 1802) ∧ A 70 k = sg k := fun z => by
          rcases hk with g | g
          · exact absurd g.1 z
          · exact ⟨⟨by omega, by omega⟩, (H.2.2 k g.1.1 g.1.2).1⟩
        have nc : chd n par sg a s = -1 := by
          rcases chd_b (n := n) (par := par) (sg := sg) a s with g | g
          · exact g
          · exfalso
            rcases hk with ⟨q1, q2⟩ | ⟨q1, q2, q3, q4⟩
            · have := q2 _ g.1.1 g.1.2 g.2.1; omega
            · have := q4 _ g.1.1 g.1.2 g.2.1 (by omega); omega
        refine rh1.of (rX18_childOf_10 hh _ _ _ _ _ ?_)
        rw [H.1]
        refine ⟨fun z => (kr z).1, fun z => ?_, fun _ => ⟨fun z => (kr z).1, fun z => ?_, fun _ => ⟨⟨by omega, by omega⟩, ⟨by omega, by omega⟩, ⟨by omega, by omega⟩, ⟨by omega, by omega⟩, ⟨by omega, by omega⟩, ⟨by omega, by omega⟩, fun z => ⟨⟨by omega, by omega⟩, ?_⟩, fun z => ⟨?_, ?_⟩⟩⟩⟩
        · have := (kr z.1).2; omega
        · have := (kr z.1).2; omega
        · refine ⟨fun y => absurd nc y, fun _ => ⟨rfl, newH T H ha hs ⟨p0, ps⟩ hk q hb ?_ (fun j => ?_) (fun j => ?_) (fun j => ?_) (fun j => ?_), ?_⟩⟩
          · simp (disch := decide) only [rh_set_a, rh_set_s]
          · simp only [rh_sets, Int.reduceEq, reduceIte]
          · simp only [rh_sets, Int.reduceEq, reduceIte]
            by_cases e : j = a
            · rw [if_pos e, if_neg (by omega), if_pos ⟨z, e⟩]
            · rw [if_neg e]
              by_cases e2 : j = n
              · rw [if_pos e2, if_pos e2]
              · rw [if_neg e2, if_neg e2, if_neg (fun y => e y.2)]
          · simp only [rh_sets, Int.reduceEq, reduceIte]
            by_cases e2 : j = n
            · rw [if_pos e2, if_pos e2]
            · rw [if_neg e2, if_neg e2, if_neg e2, if_neg (fun y => y.1 z)]
          · simp only [rh_sets, Int.reduceEq, reduceIte]
          · exact ((((((frx.rf.st (by unfold Fbd; omega)).st (by unfold Fbd; omega)).st (by unfold Fbd; omega)).st (by unfold Fbd; omega)).st (by unfold Fbd; omega)).st (by unfold Fbd; omega)).st (by unfold Fbd; omega)
        · rcases hb with hb | hb
          · exact absurd hb.1 z
          · exact ⟨by omega, by omega⟩
        · have bn : b < n := by
            rcases hb with hb | hb
            · exact absurd hb.1 z
            · omega
          refine ⟨fun y => absurd nc y, fun _ => ⟨rfl, newH T H ha hs ⟨p0, ps⟩ hk q hb ?_ (fun j => ?_) (fun j => ?_) (fun j => ?_) (fun j => ?_), ?_⟩⟩
          · simp (disch := decide) only [rh_set_a, rh_set_s]
          · simp only [rh_sets, Int.reduceEq, reduceIte]
          · simp only [rh_sets, Int.reduceEq, reduceIte]
            by_cases e2 : j = n
            · rw [if_pos e2, if_pos e2]
            · rw [if_neg e2, if_neg e2, if_neg (fun y => z y.1)]
          · simp only [rh_sets, Int.reduceEq, reduceIte]
            by_cases e : j = b
            · rw [if_pos e, if_neg (by omega), if_pos ⟨z, e⟩]
            · rw [if_neg e]
              by_cases e2 : j = n
              · rw [if_pos e2, if_pos e2]
              · rw [if_neg e2, if_neg e2, if_neg e2, if_neg (fun y => e y.2)]
          · simp only [rh_sets, Int.reduceEq, reduceIte]
          · exact ((((((frx.rf.st (by unfold Fbd; omega)).st (by unfold Fbd; omega)).st (by unfold Fbd; omega)).st (by unfold Fbd; omega)).st (by unfold Fbd; omega)).st (by unfold Fbd; omega)).st (by unfold Fbd; omega)
      rcases hk with ⟨q1, q2⟩ | ⟨q1, q2, q3, q4⟩
      · exact fresh (.inl q1)
      · by_cases z : s < sg k
        · exact fresh (.inr z)
        · obtain ⟨g1, g2⟩ := H.2.2 k q1.1 q1.2
          refine rh1.of (rX18_childOf_10 hh _ _ _ _ _ ?_)
          rw [g1]
          by_cases e : sg k = s
          · refine ⟨fun _ => ⟨by omega, by omega⟩, fun y => by omega, fun _ => ⟨fun _ => ⟨by omega, by omega⟩, fun _ => ?_, fun y => absurd (show k ≠ -1 ∧ sg k = s from ⟨(by omega), e⟩) y⟩⟩
            have c := chd_u T q1.1 q1.2 q2 e
            exact ⟨fun _ => ⟨c.symm, rfl⟩, fun y => by omega⟩
          · refine ⟨fun _ => ⟨by omega, by omega⟩, fun _ => ⟨⟨by omega, by omega⟩, ?_⟩, fun y => absurd (show k ≠ -1 ∧ sg k < s from ⟨by omega, by omega⟩) y⟩
            rw [q2] at g2
            exact ih (sg k) k (A 72 k) (by omega) (by omega) (by omega) g2 (.inr ⟨q1, q2, rfl⟩)
  refine rh1.of (rX18_childOf_0 hh _ _ _ ?_)
  exact ⟨⟨by omega, by omega⟩, w s.toNat 0 (-1) (A 71 a) (by omega) (by omega) (by omega) (H.2.1 a ha.1 ha.2).1 (.inl ⟨rfl, rfl⟩)⟩
theorem c_child (hm : rh_ms wm) {n a s : Int} {par sg en dp : Int → Int} (B : rhM) (n1 : 1 ≤ n) (H : MTr B n par sg en dp) (hn : n ≤ 1802) : eC wm YX32_child 0 [(2, 0), (0, a), (0, s)] B (chd n par sg a s) B := by
  refine eC.of1 (rC1.of (by decide) (LE0 rfl) ?_)
  have w : ∀ (u : Nat) (k : Int), k + u = n → 1 ≤ k → rh1 wm YX32_child 0 2 [(0, 2, 0), (1, 0, a), (2, 0, s), (3, 0, k)] [] B (fun r M' => r = fwd (fun k => par k = a ∧ sg k = s) u k ∧ M' = B) := by
    intro u
    induction u with
    | zero =>
      intro k hk k0
      refine rh1.of (rX32_child_2 hm _ _ _ _ ?_)
      rw [H.1]
      exact ⟨fun z => by omega, fun _ => ⟨rfl, rfl⟩⟩
    | succ u ih =>
      intro k hk k0
      obtain ⟨g1, g2⟩ := H.2.2 k k0 (by omega)
      refine rh1.of (rX32_child_2 hm _ _ _ _ ?_)
      rw [H.1, g1, g2]
      refine ⟨fun _ => ⟨⟨by omega, by omega⟩, fun _ => ⟨by omega, by omega⟩, fun z => ⟨(fwd_t (E := fun k => par k = a ∧ sg k = s) z).symm, rfl⟩, fun z => ⟨⟨by omega, by omega⟩, ?_⟩⟩, fun z => by omega⟩
      rw [fwd_f (E := fun k => par k = a ∧ sg k = s) z]
      exact ih (k + 1) (by omega) (by omega)
  refine rh1.of (rX32_child_0 hm _ _ _ ?_)
  exact w (n - 1).toNat 1 (by omega) (by omega)
/-- both trees -/
def Gbd (c j : Int) : Prop := (c = 0 ∧ j = 128) ∨ (90 ≤ c ∧ c ≤ 95)
def Btr (A B : rhM) (n : Int) (par sg en dp : Int → Int) : Prop := Tri n par sg ∧ HTr A n par sg en ∧ MTr B n par sg en dp ∧ DpT n par dp
theorem t_word (hh : rh_hs wh) (hm : rh_ms wm) {Mh Mm : rhM} (W : Rwl Mh Mm) {w : Int} (hw : 0 ≤ w ∧ w < Mm 0 120) : ∀ (m : Nat) (k a n : Int) (par sg en dp : Int → Int) (A B : rhM), k + m = Mm 89 w → 0 ≤ k → Btr A B n par sg en dp → (0 ≤ a ∧ a < n) → dp a = k → n ≤ 1 + 12 * w + k → frx Fbd Mh A → frx Gbd Mm B →
    ∃ n' par' sg' en' dp' A' B', eS wh YX18_build 2 25 [(0, 2, 63), (1, 0, w), (2, 0, a), (3, 0, k)] [] A 13 [(0, 2, 63), (1, 0, w + 1)] [] A' ∧ eS wm YX32_makeBeginnings 1 40 [(0, 2, 0), (1, 0, w), (2, 0, a), (3, 0, k)] [] B 28 [(0, 2, 0), (1, 0, w + 1)] [] B' ∧ Btr A' B' n' par' sg' en' dp' ∧ n' ≤ 1 + 12 * (w + 1) ∧ frx Fbd Mh A' ∧ frx Gbd Mm B' := by
  have w2 := W.2.1
  obtain ⟨y1, y2, y3⟩ := W.2.2 w hw.1 hw.2
  intro m
  induction m with
  | zero =>
    intro k a n par sg en dp A B hk k0 S ha hd hn fA fB
    obtain ⟨T, H, G, D⟩ := S
    refine ⟨n, par, sg, upz en a 1, dp, rh_set A 73 a 1, rh_set B 92 a 1, eS.of (fun P HP => ?_), eS.of (fun P HP => ?_), ⟨T, ⟨by rw [rh_set_a (by decide)]; exact H.1, fun c c0 c1 => ⟨by rw [rh_set_a (by decide)]; exact (H.2.1 c c0 c1).1, ?_⟩, fun x x0 x1 => by rw [rh_set_a (by decide), rh_set_a (by decide)]; exact H.2.2 x x0 x1⟩, ⟨by rw [rh_set_a (by decide)]; exact G.1, fun c c0 c1 => ⟨?_, by rw [rh_set_a (by decide)]; exact (G.2.1 c c0 c1).2⟩, fun x x0 x1 => by rw [rh_set_a (by decide), rh_set_a (by decide)]; exact G.2.2 x x0 x1⟩, D⟩, (by omega), fA.st (by unfold Fbd; omega), fB.st (by unfold Gbd; omega)⟩
    · refine rh1.of (rX18_build_25 hh _ _ _ _ ?_)
      rw [fA 66 w (by unfold Fbd; omega), y1]
      exact ⟨⟨by omega, by omega⟩, fun z => by omega, fun _ => ⟨⟨by omega, by omega⟩, ⟨by omega, by omega⟩, HP⟩⟩
    · refine rh1.of (rX32_makeBeginnings_40 hm _ _ _ _ ?_)
      rw [fB 89 w (by unfold Gbd; omega)]
      exact ⟨⟨by omega, by omega⟩, fun z => by omega, fun _ => ⟨⟨by omega, by omega⟩, ⟨by omega, by omega⟩, HP⟩⟩
    · by_cases e : c = a
      · rw [e, rh_set_s, upz_s]
      · rw [rh_set_j e, upz_n e]; exact (H.2.1 c c0 c1).2
    · by_cases e : c = a
      · rw [e, rh_set_s, upz_s]
      · rw [rh_set_j e, upz_n e]; exact (G.2.1 c c0 c1).1
  | succ m ih =>
    intro k a n par sg en dp A B hk k0 S ha hd hn fA fB
    obtain ⟨T, H, G, D⟩ := S
    have n1 := T.1
    obtain ⟨z1, z2⟩ := y3 k k0 (by omega)
    obtain ⟨s, hs⟩ : ∃ s, s = Mm 88 (12 * w + k) := ⟨_, rfl⟩
    rw [← hs] at z1 z2
    have K0 := c_get hh (i := w) (k := k) (hs_rw64 hh) A ⟨by omega, by omega⟩
    rw [show A (64 + 1) (12 * w + k) = s from (fA 65 _ (by unfold Fbd; omega)).trans z1] at K0
    obtain ⟨r, A1, K1, p1, p2⟩ := c_childOf hh (s := s) A T H ha z2 (by omega)
    have K2 := c_child hm (a := a) (s := s) B n1 G (by omega)
    have EH : ∀ {A'} (_ : eS wh YX18_build 2 25 [(0, 2, 63), (1, 0, w), (2, 0, r), (3, 0, k + 1)] [] A1 13 [(0, 2, 63), (1, 0, w + 1)] [] A'), eS wh YX18_build 2 25 [(0, 2, 63), (1, 0, w), (2, 0, a), (3, 0, k)] [] A 13 [(0, 2, 63), (1, 0, w + 1)] [] A' := fun E => eS.of (fun P HP => by
      refine rh1.of (rX18_build_25 hh _ _ _ _ ?_)
      rw [fA 66 w (by unfold Fbd; omega), y1]
      refine ⟨⟨by omega, by omega⟩, fun _ => ?_, fun z => by omega⟩
      refine rh1.s (vX18_build_46 (hs_rw64 hh) K0 (LE0 rfl)) ?_
      refine rh1.s (vX18_build_49 hh K1 (LE0 rfl)) ?_
      refine rh1.of (rX18_build_52 hh _ _ _ _ ?_)
      exact ⟨⟨by omega, by omega⟩, rh1.s E HP⟩)
    have EM : ∀ {B'} (_ : eS wm YX32_makeBeginnings 1 66 [(0, 2, 0), (1, 0, w), (2, 0, a), (3, 0, k)] [(0, chd n par sg a s)] B 28 [(0, 2, 0), (1, 0, w + 1)] [] B'), eS wm YX32_makeBeginnings 1 40 [(0, 2, 0), (1, 0, w), (2, 0, a), (3, 0, k)] [] B 28 [(0, 2, 0), (1, 0, w + 1)] [] B' := fun E => eS.of (fun P HP => by
      refine rh1.of (rX32_makeBeginnings_40 hm _ _ _ _ ?_)
      rw [fB 89 w (by unfold Gbd; omega), fB 88 _ (by unfold Gbd; omega), ← hs]
      refine ⟨⟨by omega, by omega⟩, fun _ => ⟨⟨by omega, by omega⟩, ?_⟩, fun z => by omega⟩
      exact rh1.s (vX32_makeBeginnings_63 hm K2 (LE0 rfl)) (rh1.s E HP))
    by_cases q : chd n par sg a s = -1
    · obtain ⟨er, H1, fA1⟩ := p2 q
      rw [er] at EH
      have S1 : Btr A1 (rh_set (rh_set (rh_set (rh_set (rh_set B 0 128 (n + 1)) 90 n a) 91 n s) 92 n 0) 93 n (dp a + 1)) (n + 1) (upz par n a) (upz sg n s) (upz en n 0) (upz dp n (dp a + 1)) := by
        refine ⟨T.up ha z2 q, H1, ⟨by simp (disch := decide) only [rh_set_a, rh_set_s], fun c c0 c1 => ?_, fun x x0 x1 => ?_⟩, ⟨by rw [upz_n (show (0 : Int) ≠ n by omega)]; exact D.1, fun x x0 x1 => ?_⟩⟩
        · simp only [rh_sets, Int.reduceEq, reduceIte]
          by_cases e : c = n
          · rw [if_pos e, if_pos e, e, upz_s, upz_s]; exact ⟨rfl, rfl⟩
          · rw [if_neg e, if_neg e, upz_n e, upz_n e]; exact G.2.1 c c0 (by omega)
        · simp only [rh_sets, Int.reduceEq, reduceIte]
          by_cases e : x = n
          · rw [if_pos e, if_pos e, e, upz_s, upz_s]; exact ⟨rfl, rfl⟩
          · rw [if_neg e, if_neg e, upz_n e, upz_n e]; exact G.2.2 x x0 (by omega)
        · by_cases e : x = n
          · rw [e, upz_s, upz_s, upz_n (show a ≠ n by omega)]; exact ⟨rfl, (by omega)⟩
          · have t := (T.2.1 x x0 (by omega)).1
            rw [upz_n e, upz_n e, upz_n (show par x ≠ n by omega)]; exact D.2 x x0 (by omega)
      obtain ⟨n', par', sg', en', dp', A', B', E1, E2, rr⟩ := ih (k + 1) n (n + 1) _ _ _ _ _ _ (by omega) (by omega) S1 ⟨by omega, by omega⟩ (by rw [upz_s, hd]) (by omega) (fA.tr fA1) (((((fB.st (by unfold Gbd; omega)).st (by unfold Gbd; omega)).st (by unfold Gbd; omega)).st (by unfold Gbd; omega)).st (by unfold Gbd; omega))
      refine ⟨n', par', sg', en', dp', A', B', EH E1, EM (eS.of (fun P HP => ?_)), rr⟩
      refine rh1.of (rX32_makeBeginnings_66 hm _ _ _ _ _ ?_)
      rw [G.1]
      refine ⟨fun _ => ⟨⟨by omega, by omega⟩, ⟨by omega, by omega⟩, ?_⟩, fun z => absurd q z⟩
      intro M3 e3
      have e4 : M3 88 (12 * w + k) = s := by rw [e3, rh_set_a (by decide), rh_set_a (by decide), fB 88 _ (by unfold Gbd; omega)]; exact hs.symm
      rw [e4]
      refine ⟨⟨by omega, by omega⟩, ⟨by omega, by omega⟩, ⟨by omega, by omega⟩, ?_⟩
      intro M4 e5
      have e6 : M4 93 a = dp a := by
        rw [e5, rh_set_a (by decide), rh_set_a (by decide), e3, rh_set_a (by decide), rh_set_a (by decide)]
        exact (G.2.1 a ha.1 ha.2).2
      rw [e6, e5, e3]
      exact ⟨⟨by omega, by omega⟩, ⟨by omega, by omega⟩, ⟨by omega, by omega⟩, ⟨by omega, by omega⟩, rh1.s E2 HP⟩
    · obtain ⟨er, eA⟩ := p1 q
      have cb := (chd_b (n := n) (par := par) (sg := sg) a s).resolve_left q
      rw [er, eA] at EH
      obtain ⟨n', par', sg', en', dp', A', B', E1, E2, rr⟩ := ih (k + 1) (chd n par sg a s) n par sg en dp A B (by omega) (by omega) ⟨T, H, G, D⟩ ⟨by omega, by omega⟩ (by rw [(D.2 _ cb.1.1 cb.1.2).1, cb.2.1, hd]) (by omega) fA fB
      refine ⟨n', par', sg', en', dp', A', B', EH E1, EM (eS.of (fun P HP => ?_)), rr⟩
      refine rh1.of (rX32_makeBeginnings_66 hm _ _ _ _ _ ?_)
      exact ⟨fun z => absurd z q, fun _ => ⟨⟨by omega, by omega⟩, rh1.s E2 HP⟩⟩
theorem t_words (hh : rh_hs wh) (hm : rh_ms wm) {Mh Mm : rhM} (W : Rwl Mh Mm) : ∀ (m : Nat) (w n : Int) (par sg en dp : Int → Int) (A B : rhM), w + m = Mm 0 120 → 0 ≤ w → Btr A B n par sg en dp → n ≤ 1 + 12 * w → frx Fbd Mh A → frx Gbd Mm B →
    ∃ n' par' sg' en' dp' A' B', eS wh YX18_build 2 13 [(0, 2, 63), (1, 0, w)] [] A 89 [(0, 2, 63), (1, 0, n' - 1)] [] A' ∧ (∀ P : Int → rhM → Prop, P 0 B' → rh1 wm YX32_makeBeginnings 1 28 [(0, 2, 0), (1, 0, w)] [] B P) ∧ Btr A' B' n' par' sg' en' dp' ∧ n' ≤ 1801 ∧ (A' 63 10 = 0 ∧ A' 63 11 = 0) ∧ frx Fbd Mh A' ∧ frx Gbd Mm B' := by
  have w2 := W.2.1
  intro m
  induction m with
  | zero =>
    intro w n par sg en dp A B hw w0 S hn fA fB
    have n1 := S.1.1
    have eA : ∀ c j, (c ≠ 63 ∨ (j ≠ 10 ∧ j ≠ 11)) → rh_set (rh_set A 63 10 0) 63 11 0 c j = A c j := fun c j h => by
      by_cases z : c = 63
      · rw [rh_set_j (by omega), rh_set_j (by omega)]
      · rw [rh_set_a z, rh_set_a z]
    refine ⟨n, par, sg, en, dp, rh_set (rh_set A 63 10 0) 63 11 0, B, eS.of (fun P HP => ?_), fun P HP => ?_, ⟨S.1, ⟨(eA _ _ (by omega)).trans S.2.1.1, fun c c0 c1 => by rw [eA 71 c (by omega), eA 73 c (by omega)]; exact S.2.1.2.1 c c0 c1, fun x x0 x1 => by rw [eA 70 x (by omega), eA 72 x (by omega)]; exact S.2.1.2.2 x x0 x1⟩, S.2.2⟩, (by omega), ⟨by rw [rh_set_j (by decide), rh_set_s], rh_set_s _ _ _ _⟩, (fA.st (by unfold Fbd; omega)).st (by unfold Fbd; omega), fB⟩
    · refine rh1.of (rX18_build_13 hh _ _ ?_)
      rw [fA 63 1 (by unfold Fbd; omega), W.1]
      refine ⟨fun z => by omega, fun _ => ?_⟩
      intro M3 e3
      have e9 : M3 63 9 = n := by rw [e3]; exact (eA _ _ (by omega)).trans S.2.1.1
      rw [e9, e3]
      exact ⟨⟨by omega, by omega⟩, HP⟩
    · refine rh1.of (rX32_makeBeginnings_28 hm _ _ ?_)
      rw [fB 0 120 (by unfold Gbd; omega)]
      exact ⟨fun z => by omega, fun _ => HP⟩
  | succ m ih =>
    intro w n par sg en dp A B hw w0 S hn fA fB
    have y2 := (W.2.2 w w0 (by omega)).2.1
    obtain ⟨n1, par1, sg1, en1, dp1, A1, B1, E1, E2, S1, hn1, fA1, fB1⟩ := t_word hh hm W (w := w) ⟨by omega, by omega⟩ (Mm 89 w).toNat 0 0 n par sg en dp A B (by omega) (by omega) S ⟨(by omega), by have := S.1.1; omega⟩ S.2.2.2.1 (by omega) fA fB
    obtain ⟨n', par', sg', en', dp', A', B', E3, E4, rr⟩ := ih (w + 1) n1 par1 sg1 en1 dp1 A1 B1 (by omega) (by omega) S1 hn1 fA1 fB1
    refine ⟨n', par', sg', en', dp', A', B', eS.of (fun P HP => ?_), fun P HP => ?_, rr⟩
    · refine rh1.of (rX18_build_13 hh _ _ ?_)
      rw [fA 63 1 (by unfold Fbd; omega), W.1]
      exact ⟨fun _ => rh1.s (E1.tr E3) HP, fun z => by omega⟩
    · refine rh1.of (rX32_makeBeginnings_28 hm _ _ ?_)
      rw [fB 0 120 (by unfold Gbd; omega)]
      exact ⟨fun _ => rh1.s E2 (E4 P HP), fun z => by omega⟩
/-- both make their trees -/
theorem t_make (hh : rh_hs wh) (hm : rh_ms wm) {Mh Mm : rhM} (W : Rwl Mh Mm) :
    ∃ n par sg en dp A B, eS wh YX18_build 2 0 (rh_lo 0 [(2, 63)]) [] Mh 89 [(0, 2, 63), (1, 0, n - 1)] [] A ∧ eC wm YX32_makeBeginnings 1 [(2, 0)] Mm 0 B ∧ Btr A B n par sg en dp ∧ n ≤ 1801 ∧ (A 63 10 = 0 ∧ A 63 11 = 0) ∧ frx Fbd Mh A ∧ frx Gbd Mm B := by
  have w2 := W.2.1
  have S0 : Btr (rh_set (rh_set (rh_set (rh_set (rh_set (rh_set Mh 63 9 0) 63 9 (0 + 1)) 70 0 0) 71 0 (-1)) 72 0 (-1)) 73 0 0) (rh_set (rh_set (rh_set (rh_set Mm 0 128 1) 92 0 0) 93 0 0) 90 0 (-1)) 1 (fun _ => 0) (fun _ => 0) (fun _ => 0) (fun _ => 0) := by
    refine ⟨⟨(by omega), fun k k0 k1 => by omega, fun j k j0 jk k1 => by omega⟩, ⟨by simp (disch := decide) only [rh_set_a, rh_set_s]; rfl, fun c c0 c1 => ?_, fun x x0 x1 => by omega⟩, ⟨by simp (disch := decide) only [rh_set_a, rh_set_s], fun c c0 c1 => ?_, fun x x0 x1 => by omega⟩, ⟨rfl, fun x x0 x1 => by omega⟩⟩
    · have e : c = 0 := (by omega)
      rw [e]
      simp (disch := decide) only [rh_set_a, rh_set_s]
      exact ⟨.inl ⟨rfl, fun x x0 x1 => by omega⟩, trivial⟩
    · have e : c = 0 := (by omega)
      rw [e]
      simp (disch := decide) only [rh_set_a, rh_set_s]
      exact ⟨trivial, trivial⟩
  obtain ⟨n', par', sg', en', dp', A', B', E3, E4, rr⟩ := t_words hh hm W (Mm 0 120).toNat 0 1 (fun _ => 0) (fun _ => 0) (fun _ => 0) (fun _ => 0) _ _ (by omega) (by omega) S0 (by omega) ((((((frx.rf.st (by unfold Fbd; omega)).st (by unfold Fbd; omega)).st (by unfold Fbd; omega)).st (by unfold Fbd; omega)).st (by unfold Fbd; omega)).st (by unfold Fbd; omega)) ((((frx.rf.st (by unfold Gbd; omega)).st (by unfold Gbd; omega)).st (by unfold Gbd; omega)).st (by unfold Gbd; omega))
  refine ⟨n', par', sg', en', dp', A', B', eS.of (fun P HP => ?_), eC.of1 (rC1.of (by decide) (LE0 rfl) ?_), rr⟩
  · refine rh1.of (rX18_build_0 hh _ ?_)
    rw [rh_set_s]
    exact ⟨⟨by omega, by omega⟩, ⟨by omega, by omega⟩, ⟨by omega, by omega⟩, ⟨by omega, by omega⟩, ⟨by omega, by omega⟩, rh1.s E3 HP⟩
  · refine rh1.of (rX32_makeBeginnings_0 hm _ ?_)
    exact E4 _ ⟨rfl, rfl⟩
end Build
