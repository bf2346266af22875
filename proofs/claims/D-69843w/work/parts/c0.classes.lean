/-! ===== LAYER 2: the house's machine ===== -/
section Classes
variable {wh wm : rhW}
theorem nx_no {n a s x t : Int} {par sg : Int → Int} (h : Nx n par sg a s x) (hs : s < t) (hx : x = -1 ∨ t < sg x) : chd n par sg a t = -1 := by
  rcases chd_b (n := n) (par := par) (sg := sg) a t with g | g
  · exact g
  · exfalso
    rcases h with ⟨q1, q2⟩ | ⟨q1, q2, q3, q4⟩
    · have := q2 _ g.1.1 g.1.2 g.2.1; omega
    · have := q4 _ g.1.1 g.1.2 g.2.1 (by omega); omega
theorem sig_no {n a t : Int} {par sg C : Int → Int} (h : chd n par sg a t = -1) : sig n par sg C a t = -1 := by unfold sig; rw [rh_if_t h]
theorem c_areAlike (hh : rh_hs wh) {n a b : Int} {par sg en : Int → Int} (A : rhM) (T : Tri n par sg) (H : HTr A n par sg en) (hn : n ≤ 1801) (ha : 0 ≤ a ∧ a < n) (hb : 0 ≤ b ∧ b < n) (hC : ∀ x, 1 ≤ x → x < n → (par x = a ∨ par x = b) → 0 ≤ A 74 x) : eC wh YX18_areAlike 0 [(2, 63), (0, a), (0, b)] A (rh_if (Alk n par sg en (A 74) a b) 1 0) A := by
  refine eC.of1 (rC1.of (by decide) (LE0 rfl) ?_)
  generalize hP : (fun (r : Int) (M' : rhM) => r = rh_if (Alk n par sg en (A 74) a b) 1 0 ∧ M' = A) = Post
  have fin0 : ∀ x y, ¬ Alk n par sg en (A 74) a b → rh1 wh YX18_areAlike 0 37 [(0, 2, 63), (3, 0, 0), (4, 0, x), (5, 0, y)] [] A Post := by
    intro x y na
    refine rh1.of (rX18_areAlike_37 hh _ _ _ _ ?_)
    refine ⟨fun z => absurd rfl z.1, fun _ => ?_⟩
    rw [← hP, rh_if_f na, rh_if_f (fun z => z.1 rfl)]
    exact ⟨rfl, rfl⟩
  have w : ∀ (m : Nat) (s x y : Int), 127 - s ≤ m → 0 ≤ s → s ≤ 126 → Nx n par sg a s x → Nx n par sg b s y → en a = en b → (∀ t, t ≤ s → sig n par sg (A 74) a t = sig n par sg (A 74) b t) → rh1 wh YX18_areAlike 0 37 [(0, 2, 63), (3, 0, 1), (4, 0, x), (5, 0, y)] [] A Post := by
    intro m
    induction m with
    | zero => intro s x y h1 h2 h3; omega
    | succ m ih =>
      intro s x y h1 s0 s1 nx ny he hs
      by_cases zx : x = -1
      · by_cases zy : y = -1
        · refine rh1.of (rX18_areAlike_37 hh _ _ _ _ ?_)
          refine ⟨fun z => absurd zx z.2.1, fun _ => ?_⟩
          have al : Alk n par sg en (A 74) a b := ⟨he, fun t => by
            by_cases l : t ≤ s
            · exact hs t l
            · rw [sig_no (nx_no nx (by omega) (.inl zx)), sig_no (nx_no ny (by omega) (.inl zy))]⟩
          rw [← hP, rh_if_t al, rh_if_t (show (1 : Int) ≠ 0 ∧ x = y from ⟨by decide, by rw [zx, zy]⟩)]
          exact ⟨rfl, rfl⟩
        · refine rh1.of (rX18_areAlike_37 hh _ _ _ _ ?_)
          refine ⟨fun z => absurd zx z.2.1, fun _ => ?_⟩
          rcases ny with g | ⟨g1, g2, g3, g4⟩
          · exact absurd g.1 zy
          · have na : ¬ Alk n par sg en (A 74) a b := fun al => by
              have e := al.2 (sg y)
              have ey := sig_x (C := A 74) T g1.1 g1.2
              rw [g2] at ey
              rw [sig_no (nx_no nx g3 (.inl zx)), ey] at e
              have := hC y g1.1 g1.2 (.inr g2)
              omega
            rw [← hP, rh_if_f na, rh_if_f (show ¬ ((1 : Int) ≠ 0 ∧ x = y) from fun z => zy (by rw [← z.2]; exact zx))]
            exact ⟨rfl, rfl⟩
      · rcases nx with g | ⟨g1, g2, g3, g4⟩
        · exact absurd g.1 zx
        · have nx : Nx n par sg a s x := .inr ⟨g1, g2, g3, g4⟩
          have ex := sig_x (C := A 74) T g1.1 g1.2
          rw [g2] at ex
          have cx := hC x g1.1 g1.2 (.inl g2)
          have bx := (T.2.1 x g1.1 g1.2).2
          obtain ⟨hx1, hx2⟩ := H.2.2 x g1.1 g1.2
          by_cases zy : y = -1
          · refine rh1.of (rX18_areAlike_37 hh _ _ _ _ ?_)
            refine ⟨fun z => absurd zy z.2.2, fun _ => ?_⟩
            have na : ¬ Alk n par sg en (A 74) a b := fun al => by
              have e := al.2 (sg x)
              rw [sig_no (nx_no ny g3 (.inl zy)), ex] at e
              omega
            rw [← hP, rh_if_f na, rh_if_f (show ¬ ((1 : Int) ≠ 0 ∧ x = y) from fun z => zx (by rw [z.2]; exact zy))]
            exact ⟨rfl, rfl⟩
          · rcases ny with k | ⟨k1, k2, k3, k4⟩
            · exact absurd k.1 zy
            · have ny : Nx n par sg b s y := .inr ⟨k1, k2, k3, k4⟩
              have ey := sig_x (C := A 74) T k1.1 k1.2
              rw [k2] at ey
              have cy := hC y k1.1 k1.2 (.inr k2)
              obtain ⟨hy1, hy2⟩ := H.2.2 y k1.1 k1.2
              refine rh1.of (rX18_areAlike_37 hh _ _ _ _ ?_)
              rw [hx1, hy1]
              refine ⟨fun _ => ⟨⟨by omega, by omega⟩, ⟨by omega, by omega⟩, fun _ => ⟨by omega, by omega⟩, fun _ => ⟨by omega, by omega⟩, ?_⟩, fun z => absurd (show (1 : Int) ≠ 0 ∧ x ≠ -1 ∧ y ≠ -1 from ⟨by decide, zx, zy⟩) z⟩
              intro r hr
              refine ⟨⟨by omega, by omega⟩, ⟨by omega, by omega⟩, ?_⟩
              by_cases q : sg x = sg y ∧ A 74 x = A 74 y
              · rw [rh_if_t q] at hr
                rw [hr]
                rw [g2] at hx2
                rw [k2, ← q.1] at hy2
                refine ih (sg x) (A 72 x) (A 72 y) (by omega) (by omega) (by omega) hx2 hy2 he (fun t ht => ?_)
                by_cases l : t ≤ s
                · exact hs t l
                · by_cases e : t = sg x
                  · rw [e, ex, q.1, ey]; exact q.2
                  · rw [sig_no (nx_no nx (by omega) (.inr (by omega))), sig_no (nx_no ny (by omega) (.inr (by omega)))]
              · rw [rh_if_f q] at hr
                rw [hr]
                refine fin0 _ _ (fun al => ?_)
                by_cases l : sg x = sg y
                · have e := al.2 (sg x)
                  rw [ex, l, ey] at e
                  exact q ⟨l, e⟩
                · by_cases l2 : sg x < sg y
                  · have e := al.2 (sg x)
                    rw [ex, sig_no (nx_no ny g3 (.inr l2))] at e
                    omega
                  · have e := al.2 (sg y)
                    rw [ey, sig_no (nx_no nx k3 (.inr (by omega)))] at e
                    omega
  obtain ⟨a1, a2⟩ := H.2.1 a ha.1 ha.2
  obtain ⟨b1, b2⟩ := H.2.1 b hb.1 hb.2
  refine rh1.of (rX18_areAlike_0 hh _ _ _ ?_)
  rw [a2, b2]
  refine ⟨⟨by omega, by omega⟩, ⟨by omega, by omega⟩, ?_⟩
  intro r hr
  refine ⟨⟨by omega, by omega⟩, ⟨by omega, by omega⟩, ?_⟩
  have lo : ∀ c t, t ≤ 0 → chd n par sg c t = -1 := fun c t ht => by
    rcases chd_b (n := n) (par := par) (sg := sg) c t with g | g
    · exact g
    · have := (T.2.1 _ g.1.1 g.1.2).2
      omega
  by_cases q : en a = en b
  · rw [rh_if_t q] at hr
    rw [hr]
    exact w 127 0 (A 71 a) (A 71 b) (by omega) (by omega) (by omega) a1 b1 q (fun t ht => by rw [sig_no (lo a t ht), sig_no (lo b t ht)])
  · rw [rh_if_f q] at hr
    rw [hr]
    exact fin0 _ _ (fun al => q al.1)
/-- the classes so far: nodes above d -/
def Bcl (A : rhM) (N : Nat) (par sg en : Int → Int) (d S : Int) (m : Nat) : Prop := A 63 10 = S ∧ (0 ≤ S ∧ S ≤ m) ∧ (∀ x, d < x → x < N → 0 ≤ A 74 x ∧ A 74 x < S) ∧ (∀ c, 0 ≤ c → c < S → (d < A 75 c ∧ A 75 c < N) ∧ A 74 (A 75 c) = c) ∧ (∀ x y, d < x → x < N → d < y → y < N → (A 74 x = A 74 y ↔ Alk N par sg en (A 74) x y)) ∧ S = sfx (mxr (A 74) N) (fun _ => 1) N m ∧ A 63 11 = sfx (mxr (A 74) N) (nch N par) N m
theorem sfx_b {Q : Int → Prop} {f : Int → Int} {n K : Int} (hf : ∀ x, 0 ≤ f x ∧ f x ≤ K) : ∀ m : Nat, 0 ≤ sfx Q f n m ∧ sfx Q f n m ≤ K * m
  | 0 => by simp only [sfx]; omega
  | m + 1 => by
    have ih := sfx_b (Q := Q) (n := n) hf m
    have h := hf (n - 1 - m)
    simp only [sfx]
    have e : K * ((m + 1 : Nat) : Int) = K * m + K := by
      rw [show ((m + 1 : Nat) : Int) = (m : Int) + 1 by omega, Int.mul_add, Int.mul_one]
    by_cases q : Q (n - 1 - m)
    · rw [rh_if_t q]; omega
    · rw [rh_if_f q]; omega
/-- how many children: along the list -/
theorem h_arcs (hh : rh_hs wh) {N : Nat} {par sg en : Int → Int} {d : Int} (hd : 0 ≤ d ∧ d < N) (hN : N ≤ 1801) (A : rhM) (T : Tri N par sg) (H : HTr A N par sg en) {v : Int} (hv : A 63 11 = v) (bv : 0 ≤ v ∧ v ≤ 4000000) : ∃ A', eS wh YX18_build 2 162 [(0, 2, 63), (1, 0, d), (3, 0, A 71 d)] [] A 89 [(0, 2, 63), (1, 0, d - 1)] [] A' ∧ A' = rh_set A 63 11 (v + nch N par d) := by
  refine ⟨_, ?_, rfl⟩
  have cs : ∀ s, (0 ≤ ctp (fun t => t ≤ s ∧ ∃ x : Int, 1 ≤ x ∧ x < N ∧ par x = d ∧ sg x = t) 127 ∧ ctp (fun t => t ≤ s ∧ ∃ x : Int, 1 ≤ x ∧ x < N ∧ par x = d ∧ sg x = t) 127 ≤ 127) := fun s => ctp_b _ 127
  have w : ∀ (m : Nat) (s k : Int), 127 - s ≤ m → 0 ≤ s → s ≤ 126 → Nx N par sg d s k → eS wh YX18_build 2 162 [(0, 2, 63), (1, 0, d), (3, 0, k)] [] (rh_set A 63 11 (v + ctp (fun t => t ≤ s ∧ ∃ x : Int, 1 ≤ x ∧ x < N ∧ par x = d ∧ sg x = t) 127)) 89 [(0, 2, 63), (1, 0, d - 1)] [] (rh_set A 63 11 (v + nch N par d)) := by
    intro m
    induction m with
    | zero => intro s k h1 h2 h3; omega
    | succ m ih =>
      intro s k h1 s0 s1 nx
      have c0 := cs s
      refine eS.of (fun P HP => ?_)
      rcases nx with ⟨g1, g2⟩ | ⟨g1, g2, g3, g4⟩
      · have e : ctp (fun t => t ≤ s ∧ ∃ x : Int, 1 ≤ x ∧ x < N ∧ par x = d ∧ sg x = t) 127 = nch N par d := by
          rw [nch_s T N (Int.le_refl _)]
          exact ctp_cg 127 (fun t _ _ => ⟨fun z => z.2, fun ⟨x, x0, x1, x2, x3⟩ => ⟨by have := g2 x x0 x1 x2; omega, x, x0, x1, x2, x3⟩⟩)
        refine rh1.of (rX18_build_162 hh _ _ _ ?_)
        rw [e, show d + -1 = d - 1 by omega]
        exact ⟨fun z => absurd g1 z, fun _ => ⟨⟨by omega, by omega⟩, HP⟩⟩
      · have bk := (T.2.1 k g1.1 g1.2).2
        obtain ⟨hk1, hk2⟩ := H.2.2 k g1.1 g1.2
        rw [g2] at hk2
        have e := ctp_i (P := fun t => t ≤ s ∧ ∃ x : Int, 1 ≤ x ∧ x < N ∧ par x = d ∧ sg x = t) (Q := fun t => t ≤ sg k ∧ ∃ x : Int, 1 ≤ x ∧ x < N ∧ par x = d ∧ sg x = t) (w := sg k) 127 (by omega) (by omega) (fun z => by have := z.1; omega) (fun t => ⟨fun ⟨z1, x, x0, x1, x2, x3⟩ => by
          by_cases l : t ≤ s
          · exact .inl ⟨l, x, x0, x1, x2, x3⟩
          · have := g4 x x0 x1 x2 (by omega)
            exact .inr (by omega), fun z => by
          rcases z with ⟨z1, z2⟩ | z
          · exact ⟨(by omega), z2⟩
          · exact ⟨(by omega), k, g1.1, g1.2, g2, z.symm⟩⟩)
        have c1 := cs (sg k)
        refine rh1.of (rX18_build_162 hh _ _ _ ?_)
        rw [rh_set_s]
        refine ⟨fun _ => ⟨⟨by omega, by omega⟩, ?_⟩, fun z => absurd (show k ≠ -1 by omega) z⟩
        intro M3 e3
        have e4 : M3 = rh_set A 63 11 (v + ctp (fun t => t ≤ sg k ∧ ∃ x : Int, 1 ≤ x ∧ x < N ∧ par x = d ∧ sg x = t) 127) := by
          rw [e3, e, ← Int.add_assoc]
          funext x j
          simp only [rh_sets]
          by_cases h : x = 63
          · by_cases g : j = 11
            · simp [h, g]
            · simp [h, g]
          · simp [h]
        have e5 : M3 72 k = A 72 k := by rw [e4, rh_set_a (by decide)]
        rw [e5, e4]
        exact ⟨⟨by omega, by omega⟩, rh1.s (ih (sg k) (A 72 k) (by omega) (by omega) (by omega) hk2) HP⟩
  have z := w 127 0 (A 71 d) (by omega) (by omega) (by omega) (H.2.1 d hd.1 hd.2).1
  have e0 : ctp (fun t => t ≤ 0 ∧ ∃ x : Int, 1 ≤ x ∧ x < N ∧ par x = d ∧ sg x = t) 127 = 0 := by
    have : ctp (fun t => t ≤ 0 ∧ ∃ x : Int, 1 ≤ x ∧ x < N ∧ par x = d ∧ sg x = t) 127 = ctp (fun _ => False) 127 := ctp_cg 127 (fun t _ _ => ⟨fun ⟨z1, x, x0, x1, x2, x3⟩ => by have := (T.2.1 x x0 x1).2; omega, fun z => z.elim⟩)
    rw [this, ctp_z]
  rw [e0, Int.add_zero, ← hv] at z
  have e6 : rh_set A 63 11 (A 63 11) = A := by
    funext x j
    simp only [rh_sets]
    by_cases h : x = 63
    · by_cases g : j = 11
      · simp [h, g]
      · simp [h, g]
    · simp [h]
  rw [e6] at z
  rw [← hv]
  exact z
theorem HTr.fx {A A' : rhM} {n : Int} {par sg en : Int → Int} (H : HTr A n par sg en) (h : frx (fun c j => (c = 63 ∧ 10 ≤ j ∧ j ≤ 11) ∨ c = 74 ∨ c = 75) A A') : HTr A' n par sg en := by
  refine ⟨(h 63 9 (by omega)).trans H.1, fun a a0 a1 => ?_, fun x x0 x1 => ?_⟩
  · rw [h 71 a (by omega), h 73 a (by omega)]; exact H.2.1 a a0 a1
  · rw [h 70 x (by omega), h 72 x (by omega)]; exact H.2.2 x x0 x1
/-- one node more -/
theorem Bcl.nx {A A' : rhM} {N : Nat} {par sg en : Int → Int} {d S c S' : Int} {m : Nat} (T : Tri N par sg) (B : Bcl A N par sg en d S m) (hd : 0 ≤ d ∧ d < N) (hm : (N : Int) - 1 - m = d) (e74 : A' 74 = upz (A 74) d c) (e10 : A' 63 10 = S') (hc : (S' = S ∧ (0 ≤ c ∧ c < S) ∧ Alk N par sg en (A 74) (A 75 c) d ∧ A' 75 = A 75 ∧ A' 63 11 = A 63 11) ∨ (S' = S + 1 ∧ c = S ∧ (∀ c', 0 ≤ c' → c' < S → ¬ Alk N par sg en (A 74) (A 75 c') d) ∧ A' 75 = upz (A 75) S d ∧ A' 63 11 = A 63 11 + nch N par d)) : Bcl A' N par sg en (d - 1) S' (m + 1) := by
  obtain ⟨b1, b2, b3, b4, b5, b6, b7⟩ := B
  have al : ∀ x y, d ≤ x → d ≤ y → (Alk N par sg en (A' 74) x y ↔ Alk N par sg en (A 74) x y) := fun x y hx hy => by
    refine Alk.cg (fun z z0 z1 hz => ?_)
    have := (T.2.1 z z0 z1).1
    rw [e74, upz_n (show z ≠ d by rcases hz with h | h <;> omega)]
  have vx : ∀ x, d < x → A' 74 x = A 74 x := fun x hx => by rw [e74, upz_n (by omega)]
  have vd : A' 74 d = c := by rw [e74, upz_s]
  have mx : ∀ x, d < x → (mxr (A' 74) N x ↔ mxr (A 74) N x) := fun x hx => ⟨fun h y y0 y1 => by have := h y y0 y1; rw [vx y (by omega), vx x hx] at this; exact this, fun h y y0 y1 => by rw [vx y (by omega), vx x hx]; exact h y y0 y1⟩
  have s1 : sfx (mxr (A' 74) N) (fun _ => 1) N m = sfx (mxr (A 74) N) (fun _ => 1) N m := sfx_cg m (fun x x0 x1 => mx x (by omega))
  have s2 : sfx (mxr (A' 74) N) (nch N par) N m = sfx (mxr (A 74) N) (nch N par) N m := sfx_cg m (fun x x0 x1 => mx x (by omega))
  have pd : ∀ y, d < y → y < N → (c = A 74 y ↔ Alk N par sg en (A 74) d y) := fun y y0 y1 => by
    rcases hc with ⟨-, h2, h3, -⟩ | ⟨-, h2, h3, -⟩
    · obtain ⟨p1, p2⟩ := b4 c h2.1 h2.2
      have q := b5 (A 75 c) y p1.1 p1.2 y0 y1
      rw [p2] at q
      rw [q]
      exact ⟨fun z => h3.sy.tr z, fun z => h3.tr z⟩
    · have q := b3 y y0 y1
      refine ⟨fun z => by omega, fun z => ?_⟩
      obtain ⟨p1, p2⟩ := b4 (A 74 y) q.1 q.2
      have q2 := (b5 (A 75 (A 74 y)) y p1.1 p1.2 y0 y1).mp p2
      exact absurd (q2.tr z.sy) (h3 _ q.1 q.2)
  have n5 : ∀ x y, d - 1 < x → x < N → d - 1 < y → y < N → (A' 74 x = A' 74 y ↔ Alk N par sg en (A' 74) x y) := fun x y x0 x1 y0 y1 => by
    rw [al x y (by omega) (by omega)]
    by_cases ex : x = d
    · by_cases ey : y = d
      · rw [ex, ey]; exact ⟨fun _ => Alk.rf _, fun _ => rfl⟩
      · rw [ex, vd, vx y (by omega)]; exact pd y (by omega) y1
    · by_cases ey : y = d
      · rw [ey, vd, vx x (by omega)]
        have := pd x (by omega) x1
        exact ⟨fun z => (this.mp z.symm).sy, fun z => (this.mpr z.sy).symm⟩
      · rw [vx x (by omega), vx y (by omega)]; exact b5 x y (by omega) x1 (by omega) y1
  have sS : ∀ f, sfx (mxr (A' 74) N) f N (m + 1) = sfx (mxr (A' 74) N) f N m + rh_if (mxr (A' 74) N d) (f d) 0 := fun f => by simp only [sfx]; rw [hm]
  rcases hc with ⟨h1, h2, h3, h4, h5⟩ | ⟨h1, h2, h3, h4, h5⟩
  · obtain ⟨p1, p2⟩ := b4 c h2.1 h2.2
    have nm : ¬ mxr (A' 74) N d := fun z => z (A 75 c) p1.1 p1.2 (by rw [vx _ p1.1, vd]; exact p2)
    refine ⟨e10, ⟨by omega, by omega⟩, fun x x0 x1 => ?_, fun c' c0 c1 => ?_, n5, ?_, ?_⟩
    · by_cases e : x = d
      · rw [e, vd, h1]; exact h2
      · rw [vx x (by omega), h1]; exact b3 x (by omega) x1
    · rw [h4]
      obtain ⟨g1, g2⟩ := b4 c' c0 (by omega)
      exact ⟨⟨by omega, by omega⟩, by rw [vx _ g1.1]; exact g2⟩
    · rw [sS, rh_if_f nm, s1]; omega
    · rw [sS, rh_if_f nm, s2, h5]; omega
  · have ym : mxr (A' 74) N d := fun y y0 y1 z => by
      rw [vx y y0, vd] at z
      have := b3 y y0 y1
      omega
    refine ⟨e10, ⟨by omega, by omega⟩, fun x x0 x1 => ?_, fun c' c0 c1 => ?_, n5, ?_, ?_⟩
    · by_cases e : x = d
      · rw [e, vd, h1]; exact ⟨by omega, by omega⟩
      · rw [vx x (by omega), h1]; have := b3 x (by omega) x1; exact ⟨by omega, by omega⟩
    · rw [h4]
      by_cases e : c' = S
      · rw [e, upz_s, vd]; exact ⟨⟨by omega, by omega⟩, h2⟩
      · rw [upz_n e]
        obtain ⟨g1, g2⟩ := b4 c' c0 (by omega)
        exact ⟨⟨by omega, by omega⟩, by rw [vx _ g1.1]; exact g2⟩
    · rw [sS, rh_if_t ym, s1]; omega
    · rw [sS, rh_if_t ym, s2, h5]; omega
theorem h_cls (hh : rh_hs wh) {N : Nat} {par sg en : Int → Int} (hN : N ≤ 1801) (T : Tri N par sg) : ∀ (k m : Nat) (d S : Int) (A : rhM), d + 1 = k → (N : Int) - 1 - m = d → HTr A N par sg en → Bcl A N par sg en d S m → ∃ A' S', (∀ P : Int → rhM → Prop, P 0 A' → rh1 wh YX18_build 2 89 [(0, 2, 63), (1, 0, d)] [] A P) ∧ Bcl A' N par sg en (-1) S' N ∧ frx (fun c j => (c = 63 ∧ 10 ≤ j ∧ j ≤ 11) ∨ c = 74 ∨ c = 75) A A' := by
  intro k
  induction k with
  | zero =>
    intro m d S A hk hm H B
    have e : m = N := (by omega)
    have e2 : d = -1 := (by omega)
    rw [e, e2] at B
    refine ⟨A, S, fun P HP => ?_, B, frx.rf⟩
    refine rh1.of (rX18_build_89 hh _ _ ?_)
    exact ⟨fun z => by omega, fun _ => HP⟩
  | succ k ih =>
    intro m d S A hk hm H B
    have hd : 0 ≤ d ∧ d < N := ⟨by omega, by omega⟩
    have B0 := B
    obtain ⟨b1, b2, b3, b4, b5, b6, b7⟩ := B
    have sb := sfx_b (Q := mxr (A 74) N) (f := nch N par) (n := N) (K := 1801) (fun x => by
      have := ctp_b (fun k => 1 ≤ k ∧ par k = x) N
      unfold nch
      omega) m
    rw [← b7] at sb
    have KA : ∀ c, 0 ≤ c → c < S → eC wh YX18_areAlike 0 [(2, 63), (0, A 75 c), (0, d)] A (rh_if (Alk N par sg en (A 74) (A 75 c) d) 1 0) A := fun c c0 c1 => by
      obtain ⟨p1, p2⟩ := b4 c c0 c1
      exact c_areAlike hh A T H (by omega) ⟨by omega, by omega⟩ hd (fun x x0 x1 hx => (b3 x (by have := (T.2.1 x x0 x1).1; rcases hx with h | h <;> omega) x1).1)
    by_cases fd : ∃ c : Int, 0 ≤ c ∧ c < S.toNat ∧ Alk N par sg en (A 74) (A 75 c) d
    · obtain ⟨c, c0, c1, c2, c3⟩ := lst1 S.toNat fd
      have ne : c ≠ S := (by omega)
      have B1 := B0.nx (A' := rh_set A 74 d c) (c := c) (S' := S) T hd hm rh_set_f (by rw [rh_set_a (by decide)]; exact b1) (.inl ⟨rfl, ⟨by omega, by omega⟩, c2, rh_set_n (by decide), rh_set_a (by decide)⟩)
      have f1 : frx (fun c j => (c = 63 ∧ 10 ≤ j ∧ j ≤ 11) ∨ c = 74 ∨ c = 75) A (rh_set A 74 d c) := frx.rf.st (by omega)
      obtain ⟨A', S', E, B2, f2⟩ := ih (m + 1) (d - 1) S (rh_set A 74 d c) (by omega) (by omega) (H.fx f1) B1
      refine ⟨A', S', fun P HP => ?_, B2, f1.tr f2⟩
      have w : ∀ (u : Nat) (i : Int), i + u = c → 0 ≤ i → rh1 wh YX18_build 2 95 [(0, 2, 63), (1, 0, d), (2, 0, i)] [] A P := by
        intro u
        induction u with
        | zero =>
          intro i hi i0
          have e : i = c := (by omega)
          rw [e]
          refine rh1.of (rX18_build_95 hh _ _ _ ?_)
          rw [b1]
          refine ⟨fun _ => ⟨⟨by omega, by omega⟩, ?_⟩, fun z => by omega⟩
          refine rh1.s (vX18_build_111 hh (KA c c0 (by omega)) (LE0 rfl)) ?_
          rw [rh_if_t c2]
          refine rh1.of (rX18_build_114 hh _ _ _ _ ?_)
          rw [rh_set_a (by decide), b1, show d + -1 = d - 1 by omega]
          exact ⟨fun z => absurd z (by decide), fun _ => ⟨⟨by omega, by omega⟩, fun z => absurd z ne, fun _ => ⟨⟨by omega, by omega⟩, E P HP⟩⟩⟩
        | succ u ihu =>
          intro i hi i0
          refine rh1.of (rX18_build_95 hh _ _ _ ?_)
          rw [b1]
          refine ⟨fun _ => ⟨⟨by omega, by omega⟩, ?_⟩, fun z => by omega⟩
          refine rh1.s (vX18_build_111 hh (KA i i0 (by omega)) (LE0 rfl)) ?_
          rw [rh_if_f (c3 i i0 (by omega))]
          refine rh1.of (rX18_build_114 hh _ _ _ _ ?_)
          exact ⟨fun _ => ⟨⟨by omega, by omega⟩, ihu (i + 1) (by omega) (by omega)⟩, fun z => absurd rfl z⟩
      refine rh1.of (rX18_build_89 hh _ _ ?_)
      exact ⟨fun _ => w c.toNat 0 (by omega) (by omega), fun z => by omega⟩
    · have no : ∀ c, 0 ≤ c → c < S → ¬ Alk N par sg en (A 74) (A 75 c) d := fun c c0 c1 h => fd ⟨c, c0, (by omega), h⟩
      obtain ⟨A1, hA1⟩ : ∃ A1, A1 = rh_set (rh_set (rh_set A 74 d S) 63 10 (S + 1)) 75 S d := ⟨_, rfl⟩
      have f1 : frx (fun c j => (c = 63 ∧ 10 ≤ j ∧ j ≤ 11) ∨ c = 74 ∨ c = 75) A A1 := by rw [hA1]; exact ((frx.rf.st (by omega)).st (by omega)).st (by omega)
      have a11 : A1 63 11 = A 63 11 := by rw [hA1, rh_set_a (by decide), rh_set_j (by decide), rh_set_a (by decide)]
      have a71 : A1 71 d = A 71 d := f1 71 d (by omega)
      obtain ⟨A2, E2, eA2⟩ := h_arcs hh hd hN A1 T (H.fx f1) a11 ⟨by omega, by omega⟩
      have nb := ctp_b (fun k => 1 ≤ k ∧ par k = d) N
      have f2 : frx (fun c j => (c = 63 ∧ 10 ≤ j ∧ j ≤ 11) ∨ c = 74 ∨ c = 75) A A2 := by rw [eA2]; exact f1.st (by omega)
      have B1 := B0.nx (A' := A2) (c := S) (S' := S + 1) T hd hm (by rw [eA2, rh_set_n (by decide), hA1, rh_set_n (by decide), rh_set_n (by decide), rh_set_f]) (by rw [eA2, rh_set_j (by decide), hA1, rh_set_a (by decide), rh_set_s]) (.inr ⟨rfl, rfl, no, by rw [eA2, rh_set_n (by decide), hA1, rh_set_f, rh_set_n (by decide), rh_set_n (by decide)], by rw [eA2, rh_set_s]⟩)
      obtain ⟨A', S', E, B2, f3⟩ := ih (m + 1) (d - 1) (S + 1) A2 (by omega) (by omega) (H.fx f2) B1
      refine ⟨A', S', fun P HP => ?_, B2, f2.tr f3⟩
      have w : ∀ (u : Nat) (i : Int), i + u = S → 0 ≤ i → rh1 wh YX18_build 2 95 [(0, 2, 63), (1, 0, d), (2, 0, i)] [] A P := by
        intro u
        induction u with
        | zero =>
          intro i hi i0
          have e : i = S := (by omega)
          rw [e]
          refine rh1.of (rX18_build_95 hh _ _ _ ?_)
          rw [rh_set_a (show (63 : Int) ≠ 74 by decide), b1]
          refine ⟨fun z => by omega, fun _ => ⟨⟨by omega, by omega⟩, fun _ => ?_, fun z => absurd rfl z⟩⟩
          intro x hx
          rw [hx]
          refine ⟨⟨by omega, by omega⟩, ⟨by omega, by omega⟩, ?_⟩
          intro M3 e3
          have e4 : M3 = A1 := by rw [e3, hA1]
          rw [e4]
          exact ⟨⟨by omega, by omega⟩, rh1.s E2 (E P HP)⟩
        | succ u ihu =>
          intro i hi i0
          refine rh1.of (rX18_build_95 hh _ _ _ ?_)
          rw [b1]
          refine ⟨fun _ => ⟨⟨by omega, by omega⟩, ?_⟩, fun z => by omega⟩
          refine rh1.s (vX18_build_111 hh (KA i i0 (by omega)) (LE0 rfl)) ?_
          rw [rh_if_f (no i i0 (by omega))]
          refine rh1.of (rX18_build_114 hh _ _ _ _ ?_)
          exact ⟨fun _ => ⟨⟨by omega, by omega⟩, ihu (i + 1) (by omega) (by omega)⟩, fun z => absurd rfl z⟩
      refine rh1.of (rX18_build_89 hh _ _ ?_)
      exact ⟨fun _ => w S.toNat 0 (by omega) (by omega), fun z => by omega⟩
/-- the house's machine, the model's tree -/
theorem t_build (hh : rh_hs wh) (hm : rh_ms wm) {Mh Mm : rhM} (W : Rwl Mh Mm) :
    ∃ (N : Nat) (par sg en dp C : Int → Int) (A B : rhM), eC wh YX18_build 2 [(2, 63)] Mh 0 A ∧ eC wm YX32_makeBeginnings 1 [(2, 0)] Mm 0 B ∧ Tri N par sg ∧ MTr B N par sg en dp ∧ DpT N par dp ∧ N ≤ 1801 ∧ (∀ x : Int, 0 ≤ x → x < N → 0 ≤ C x) ∧ (∀ x y : Int, 0 ≤ x → x < N → 0 ≤ y → y < N → (C x = C y ↔ Alk N par sg en C x y)) ∧ A 63 10 = psm (mxr C N) (fun _ => 1) N ∧ A 63 11 = psm (mxr C N) (nch N par) N ∧ frx Fbd Mh A ∧ frx Gbd Mm B := by
  obtain ⟨n, par, sg, en, dp, A, B, E1, E2, S, hn, ⟨z1, z2⟩, fA, fB⟩ := t_make hh hm W
  have n1 := S.1.1
  obtain ⟨N, rfl⟩ : ∃ N : Nat, n = N := ⟨n.toNat, (by omega)⟩
  obtain ⟨A', S', E, Bc, f⟩ := h_cls hh (N := N) (by omega) S.1 N 0 ((N : Int) - 1) 0 A (by omega) (by omega) S.2.1 ⟨z1, ⟨by omega, by omega⟩, fun x x0 x1 => by omega, fun c c0 c1 => by omega, fun x y x0 x1 => by omega, rfl, z2⟩
  obtain ⟨b1, b2, b3, b4, b5, b6, b7⟩ := Bc
  have p1 := sfx_p (Q := mxr (A' 74) N) (f := fun _ => 1) N 0
  have p2 := sfx_p (Q := mxr (A' 74) N) (f := nch N par) N 0
  rw [Nat.zero_add] at p1 p2
  refine ⟨N, par, sg, en, dp, A' 74, A', B, eC.of1 (rC1.of (by decide) (LE0 rfl) (rh1.s E1 (E _ ⟨rfl, rfl⟩))), E2, S.1, S.2.2.1, S.2.2.2, (by omega), fun x x0 x1 => (b3 x (by omega) x1).1, fun x y x0 x1 y0 y1 => b5 x y (by omega) x1 (by omega) y1, ?_, ?_, fA.tr (f.w (fun c j h => by unfold Fbd; omega)), fB⟩
  · rw [b1, b6, ← p1]; show _ = _ + 0; omega
  · rw [b7, ← p2]; show _ = _ + 0; omega
end Classes
