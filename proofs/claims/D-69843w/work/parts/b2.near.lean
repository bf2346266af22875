/-! ===== LAYER 2: changes between words, near words ===== -/
section Near
variable {wh wm : rhW}
noncomputable def dsp (E : Int → Int → Prop) (a b x y z t : Int) : Int := rh_if (1 < a ∧ 1 < b ∧ E (a - 1) (b - 2) ∧ E (a - 2) (b - 1)) (min (min (x + rh_if (E (a - 1) (b - 1)) 0 1) (1 + min y z)) (1 + t)) (min (x + rh_if (E (a - 1) (b - 1)) 0 1) (1 + min y z))
noncomputable def dlr (E : Int → Int → Prop) (a : Int) (p q : Int → Int) : Nat → Int
  | 0 => a
  | b + 1 => dsp E a (b + 1) (p b) (p (b + 1)) (dlr E a p q b) (q (b - 1))
noncomputable def dlt (E : Int → Int → Prop) : Nat → (Int → Int) × (Int → Int)
  | 0 => (fun b => b, fun _ => 0)
  | a + 1 => (fun b => dlr E (a + 1) (dlt E a).1 (dlt E a).2 b.toNat, (dlt E a).1)
noncomputable def dL (E : Int → Int → Prop) (a b : Int) : Int := (dlt E a.toNat).1 b
theorem dL_0 {E : Int → Int → Prop} (b : Int) : dL E 0 b = b := rfl
theorem dL_c {E : Int → Int → Prop} {a : Int} (h : 0 ≤ a) : dL E a 0 = a := by
  obtain ⟨u, rfl⟩ : ∃ u : Nat, a = u := ⟨a.toNat, (by omega)⟩
  unfold dL
  rw [show ((u : Int)).toNat = u by omega]
  cases u with
  | zero => rfl
  | succ u => rfl
theorem dsp_t {E : Int → Int → Prop} {a b x y z t t' : Int} (h : a ≤ 1) : dsp E a b x y z t = dsp E a b x y z t' := by
  unfold dsp
  have q : ¬ (1 < a ∧ 1 < b ∧ E (a - 1) (b - 2) ∧ E (a - 2) (b - 1)) := fun q => by omega
  rw [rh_if_f q, rh_if_f q]
theorem dL_s {E : Int → Int → Prop} {a b : Int} (ha : 1 ≤ a) (hb : 1 ≤ b) : dL E a b = dsp E a b (dL E (a - 1) (b - 1)) (dL E (a - 1) b) (dL E a (b - 1)) (dL E (a - 2) (b - 2)) := by
  obtain ⟨u, rfl⟩ : ∃ u : Nat, a = ((u + 1 : Nat) : Int) := ⟨(a - 1).toNat, (by omega)⟩
  obtain ⟨v, rfl⟩ : ∃ v : Nat, b = ((v + 1 : Nat) : Int) := ⟨(b - 1).toNat, (by omega)⟩
  have e1 : dL E ((u + 1 : Nat) : Int) ((v + 1 : Nat) : Int) = dlr E ((u : Int) + 1) (dlt E u).1 (dlt E u).2 (v + 1) := by
    unfold dL
    rw [show (((u + 1 : Nat) : Int)).toNat = u + 1 by omega]
    show dlr E ((u : Int) + 1) (dlt E u).1 (dlt E u).2 (((v + 1 : Nat) : Int)).toNat = _
    rw [show (((v + 1 : Nat) : Int)).toNat = v + 1 by omega]
  have e2 : dL E ((u + 1 : Nat) : Int) (((v + 1 : Nat) : Int) - 1) = dlr E ((u : Int) + 1) (dlt E u).1 (dlt E u).2 v := by
    unfold dL
    rw [show (((u + 1 : Nat) : Int)).toNat = u + 1 by omega]
    show dlr E ((u : Int) + 1) (dlt E u).1 (dlt E u).2 (((v + 1 : Nat) : Int) - 1).toNat = _
    rw [show (((v + 1 : Nat) : Int) - 1).toNat = v by omega]
  have e3 : ∀ b, dL E (((u + 1 : Nat) : Int) - 1) b = (dlt E u).1 b := fun b => by
    unfold dL
    rw [show (((u + 1 : Nat) : Int) - 1).toNat = u by omega]
  rw [e1, e2, e3, e3]
  show dsp E ((u : Int) + 1) ((v : Int) + 1) ((dlt E u).1 v) ((dlt E u).1 ((v : Int) + 1)) (dlr E ((u : Int) + 1) (dlt E u).1 (dlt E u).2 v) ((dlt E u).2 ((v : Int) - 1)) = _
  rw [show ((u + 1 : Nat) : Int) = (u : Int) + 1 by omega, show ((v + 1 : Nat) : Int) = (v : Int) + 1 by omega, show (v : Int) + 1 - 1 = v by omega, show (v : Int) + 1 - 2 = (v : Int) - 1 by omega]
  cases u with
  | zero => exact dsp_t (by omega)
  | succ u =>
    have e4 : dL E (((u + 1 : Nat) : Int) + 1 - 2) ((v : Int) - 1) = (dlt E (u + 1)).2 ((v : Int) - 1) := by
      unfold dL
      rw [show (((u + 1 : Nat) : Int) + 1 - 2).toNat = u by omega]
      rfl
    rw [e4]
theorem dsp_b {E : Int → Int → Prop} {a b x y z t : Int} (hx : 0 ≤ x) (hy : 0 ≤ y) (hz : 0 ≤ z) (ht : 0 ≤ t) : 0 ≤ dsp E a b x y z t ∧ dsp E a b x y z t ≤ 1 + y := by
  unfold dsp
  have e : 0 ≤ rh_if (E (a - 1) (b - 1)) (0 : Int) 1 ∧ rh_if (E (a - 1) (b - 1)) (0 : Int) 1 ≤ 1 := by
    by_cases q : E (a - 1) (b - 1)
    · rw [rh_if_t q]; omega
    · rw [rh_if_f q]; omega
  by_cases q : 1 < a ∧ 1 < b ∧ E (a - 1) (b - 2) ∧ E (a - 2) (b - 1)
  · rw [rh_if_t q]; omega
  · rw [rh_if_f q]; omega
theorem dlt_b {E : Int → Int → Prop} : ∀ a : Nat, (∀ b : Int, 0 ≤ b → 0 ≤ (dlt E a).1 b ∧ (dlt E a).1 b ≤ a + b) ∧ ∀ b : Int, 0 ≤ b → 0 ≤ (dlt E a).2 b
  | 0 => ⟨fun b hb => by show 0 ≤ b ∧ b ≤ ((0 : Nat) : Int) + b; omega, fun b hb => by show (0 : Int) ≤ 0; omega⟩
  | a + 1 => by
    obtain ⟨h1, h2⟩ := dlt_b (E := E) a
    refine ⟨fun b hb => ?_, fun b hb => (h1 b hb).1⟩
    have key : ∀ v : Nat, 0 ≤ dlr E ((a : Int) + 1) (dlt E a).1 (dlt E a).2 v ∧ dlr E ((a : Int) + 1) (dlt E a).1 (dlt E a).2 v ≤ a + 1 + v := by
      intro v
      induction v with
      | zero => simp only [dlr]; omega
      | succ v ih =>
        simp only [dlr]
        have x := h1 v (by omega)
        have y := h1 (v + 1) (by omega)
        by_cases q : (1 : Int) < v + 1
        · have t := h2 ((v : Int) - 1) (by omega)
          have := dsp_b (E := E) (a := (a : Int) + 1) (b := (v : Int) + 1) x.1 y.1 ih.1 t
          omega
        · have e : dsp E ((a : Int) + 1) ((v : Int) + 1) ((dlt E a).1 v) ((dlt E a).1 (v + 1)) (dlr E ((a : Int) + 1) (dlt E a).1 (dlt E a).2 v) ((dlt E a).2 (v - 1)) = dsp E ((a : Int) + 1) ((v : Int) + 1) ((dlt E a).1 v) ((dlt E a).1 (v + 1)) (dlr E ((a : Int) + 1) (dlt E a).1 (dlt E a).2 v) 0 := by
            unfold dsp
            have q2 : ¬ (1 < (a : Int) + 1 ∧ 1 < (v : Int) + 1 ∧ E ((a : Int) + 1 - 1) ((v : Int) + 1 - 2) ∧ E ((a : Int) + 1 - 2) ((v : Int) + 1 - 1)) := fun z => q z.2.1
            rw [rh_if_f q2, rh_if_f q2]
          rw [e]
          have := dsp_b (E := E) (a := (a : Int) + 1) (b := (v : Int) + 1) x.1 y.1 ih.1 (Int.le_refl 0)
          omega
    have := key b.toNat
    show 0 ≤ dlr E ((a : Int) + 1) (dlt E a).1 (dlt E a).2 b.toNat ∧ dlr E ((a : Int) + 1) (dlt E a).1 (dlt E a).2 b.toNat ≤ ((a + 1 : Nat) : Int) + b
    omega
theorem dL_b {E : Int → Int → Prop} {a b : Int} (ha : 0 ≤ a) (hb : 0 ≤ b) : 0 ≤ dL E a b ∧ dL E a b ≤ a + b := by
  have := (dlt_b (E := E) a.toNat).1 b hb
  unfold dL
  omega
theorem wix {w a b a' b' : Int} (h0 : 0 ≤ b) (h : b' < w) (hw : 0 ≤ w) (ha : a' < a) : w * a' + b' < w * a + b := by
  have h1 : w * (a' + 1) ≤ w * a := Int.mul_le_mul_of_nonneg_left (by omega) hw
  rw [Int.mul_add, Int.mul_one] at h1
  omega
/-- the table so far -/
def Tdl (E : Int → Int → Prop) (w m : Int) (X : Int → Int) (a b : Int) : Prop := ∀ a' b' : Int, 0 ≤ a' → 0 ≤ b' → b' ≤ m → (a' < a ∨ (a' = a ∧ b' < b)) → X (w * a' + b') = dL E a' b'
theorem Tdl.st {E : Int → Int → Prop} {w m a b v : Int} {M : rhM} {c : Int} (T : Tdl E w m (M c) a b) (hw : m < w) (hb : 0 ≤ b ∧ b ≤ m) (hv : v = dL E a b) : Tdl E w m (rh_set M c (w * a + b) v c) a (b + 1) := fun a' b' a0 b0 b1 h => by
  by_cases q : a' = a ∧ b' = b
  · rw [q.1, q.2, rh_set_s, hv]
  · rw [rh_set_j]
    · exact T a' b' a0 b0 b1 (by omega)
    · intro e
      rcases h with h | h
      · have := wix (w := w) (a := a) (b := b) (a' := a') (b' := b') (by omega) (by omega) (by omega) h
        omega
      · rw [h.1] at e
        omega
theorem Tdl.nx {E : Int → Int → Prop} {w m a : Int} {X : Int → Int} (T : Tdl E w m X a (m + 1)) : Tdl E w m X (a + 1) 0 := fun a' b' a0 b0 b1 h => T a' b' a0 b0 b1 (by omega)
theorem dsp_e {E : Int → Int → Prop} {a b x y z t c v : Int} (hc : c = min (x + rh_if (E (a - 1) (b - 1)) 0 1) (1 + min y z)) (h : (1 < a ∧ 1 < b ∧ E (a - 1) (b - 2) ∧ E (a - 2) (b - 1)) → v = min c (1 + t)) (h2 : ¬ (1 < a ∧ 1 < b ∧ E (a - 1) (b - 2) ∧ E (a - 2) (b - 1)) → v = c) : v = dsp E a b x y z t := by
  unfold dsp
  by_cases q : 1 < a ∧ 1 < b ∧ E (a - 1) (b - 2) ∧ E (a - 2) (b - 1)
  · rw [rh_if_t q, ← hc]; exact h q
  · rw [rh_if_f q, ← hc]; exact h2 q
theorem c_changesH (hh : rh_hs wh) {E : Int → Int → Prop} {i n m : Int} (hi : 0 ≤ i ∧ i < 150) (hn : 0 ≤ n ∧ n ≤ 12) (hm' : 0 ≤ m ∧ m ≤ 12) (M : rhM) (h1 : M 66 i = n) (h2 : M 69 0 = m) (hE : ∀ t s, 0 ≤ t → t < n → 0 ≤ s → s < m → (M 65 (12 * i + t) = M 68 s ↔ E t s)) :
    rC1 wh YX18_changes 1 [(2, 63), (0, i)] M (fun r M' => r = dL E n m ∧ frx (fun c _ => c = 76) M M') := by
  refine rC1.of (by decide) (LE0 rfl) ?_
  generalize hPost : (fun (r : Int) (M' : rhM) => r = dL E n m ∧ frx (fun c _ => c = 76) M M') = Post
  have B : ∀ c, 0 ≤ c → c ≤ 12 → 0 ≤ (m + 1) * c ∧ (m + 1) * c ≤ 156 := fun c c0 c1 => by
    have := mb2 (a := m + 1) (b := c) (A := 13) (B := 12) (by omega) (by omega) (by omega) (by omega)
    omega
  have w1 : ∀ (k : Nat) (a : Int) (X : rhM), a + k = n + 1 → 0 ≤ a → frx (fun c _ => c = 76) M X → Tdl E (m + 1) m (X 76) a 0 → rh1 wh YX18_changes 1 28 [(0, 2, 63), (1, 0, i), (2, 0, n), (3, 0, m), (4, 0, m + 1), (5, 0, a)] [] X Post := by
    intro k
    induction k with
    | zero =>
      intro a X ha a0 f T
      have bn := B n (by omega) (by omega)
      refine rh1.of (rX18_changes_28 hh _ _ _ _ _ _ ?_)
      refine ⟨fun z => by omega, fun _ => ⟨⟨by omega, by omega⟩, ?_⟩⟩
      rw [T n m (by omega) (by omega) (by omega) (by omega), ← hPost]
      exact ⟨rfl, f⟩
    | succ k ih =>
      intro a X ha a0 f T
      have ba := B a (by omega) (by omega)
      have w2 : ∀ (k2 : Nat) (b : Int) (X : rhM), b + k2 = m + 1 → 0 ≤ b → frx (fun c _ => c = 76) M X → Tdl E (m + 1) m (X 76) a b → rh1 wh YX18_changes 1 37 [(0, 2, 63), (1, 0, i), (2, 0, n), (3, 0, m), (4, 0, m + 1), (5, 0, a), (6, 0, b)] [] X Post := by
        intro k2
        induction k2 with
        | zero =>
          intro b X hb b0 f T
          have e : b = m + 1 := (by omega)
          rw [e] at T
          refine rh1.of (rX18_changes_37 hh _ _ _ _ _ _ _ ?_)
          exact ⟨fun z => by omega, fun _ => ⟨⟨by omega, by omega⟩, ih (a + 1) X (by omega) (by omega) f T.nx⟩⟩
        | succ k2 ih2 =>
          intro b X hb b0 f T
          have fin : ∀ v, v = dL E a b → rh1 wh YX18_changes 1 37 [(0, 2, 63), (1, 0, i), (2, 0, n), (3, 0, m), (4, 0, m + 1), (5, 0, a), (6, 0, b + 1)] [] (rh_set X 76 ((m + 1) * a + b) v) Post := fun v hv =>
            ih2 (b + 1) _ (by omega) (by omega) (f.st rfl) (T.st (by omega) ⟨by omega, by omega⟩ hv)
          have rng : 0 ≤ (m + 1) * a + b ∧ (m + 1) * a + b < 507 := ⟨by omega, by omega⟩
          refine rh1.of (rX18_changes_37 hh _ _ _ _ _ _ _ ?_)
          refine ⟨fun _ => ?_, fun z => by omega⟩
          intro v hv
          by_cases z : a = 0 ∨ b = 0
          · have ev : v = dL E a b := by
              by_cases q : a = 0
              · rw [hv, rh_if_t q, q, dL_0]
              · have q2 : b = 0 := (by omega)
                rw [hv, rh_if_f q, rh_if_t q2, q2, dL_c a0]
            have bv := dL_b (E := E) a0 b0
            exact ⟨fun y => by omega, fun _ => ⟨rng, ⟨by omega, by omega⟩, fin v ev⟩⟩
          · have a1 : 1 ≤ a := (by omega)
            have b1 : 1 ≤ b := (by omega)
            have bp := B (a - 1) (by omega) (by omega)
            have hx := T (a - 1) (b - 1) (by omega) (by omega) (by omega) (by omega)
            have hy := T (a - 1) b (by omega) (by omega) (by omega) (by omega)
            have hz := T a (b - 1) (by omega) (by omega) (by omega) (by omega)
            have dx := dL_b (E := E) (a := a - 1) (b := b - 1) (by omega) (by omega)
            have dy := dL_b (E := E) (a := a - 1) (b := b) (by omega) (by omega)
            have dz := dL_b (E := E) (a := a) (b := b - 1) (by omega) (by omega)
            have ds := dL_s (E := E) a1 b1
            refine ⟨fun _ => ?_, fun y => absurd (by rw [hv, rh_if_f (by omega), rh_if_f (by omega)]) y⟩
            have g64 : ∀ t, 0 ≤ t → t < n → eC wh YX19_get 0 [(2, 64), (0, i), (0, t)] X (M 65 (12 * i + t)) X := fun t t0 t1 => by
              have := c_get hh (i := i) (k := t) (hs_rw64 hh) X ⟨by omega, by omega⟩
              rw [show X (64 + 1) (12 * i + t) = M 65 (12 * i + t) from f 65 _ (by omega)] at this
              exact this
            have g67 : ∀ s, 0 ≤ s → s < m → eC wh YX19_get 0 [(2, 67), (0, 0), (0, s)] X (M 68 s) X := fun s s0 s1 => by
              have := c_get hh (i := 0) (k := s) (hs_rw67 hh) X ⟨by omega, by omega⟩
              rw [show X (67 + 1) (12 * 0 + s) = M 68 s from by rw [show 12 * 0 + s = s by omega]; exact f 68 _ (by omega)] at this
              exact this
            refine rh1.s (eS.fx 0 (x := a - 1) rfl ⟨by omega, by omega⟩ rfl) ?_
            refine rh1.s (vX18_changes_81 (hs_rw64 hh) (g64 (a - 1) (by omega) (by omega)) (LE0 rfl)) ?_
            refine rh1.of (rX18_changes_84 hh _ _ _ _ _ _ _ _ ?_)
            refine rh1.s (eS.fx 0 (x := b - 1) rfl ⟨by omega, by omega⟩ rfl) ?_
            refine rh1.s (vX18_changes_93 (hs_rw67 hh) (g67 (b - 1) (by omega) (by omega)) (LE0 rfl)) ?_
            refine rh1.of (rX18_changes_96 hh _ _ _ _ _ _ _ _ _ ?_)
            rw [show (m + 1) * (a - 1) + b - 1 = (m + 1) * (a - 1) + (b - 1) by omega, show (m + 1) * a + b - 1 = (m + 1) * a + (b - 1) by omega, hx, hy, hz]
            intro x3 h3
            refine ⟨⟨by omega, by omega⟩, ?_⟩
            intro x4 h4
            have e4 : x4 = dL E (a - 1) (b - 1) + rh_if (E (a - 1) (b - 1)) 0 1 := by
              rw [h4, h3]
              by_cases q : M 65 (12 * i + (a - 1)) = M 68 (b - 1)
              · rw [rh_if_t q, rh_if_f (by decide), rh_if_t ((hE _ _ (by omega) (by omega) (by omega) (by omega)).mp q)]
              · rw [rh_if_f q, rh_if_t rfl, rh_if_f (fun y => q ((hE _ _ (by omega) (by omega) (by omega) (by omega)).mpr y))]
            have b4 : dL E (a - 1) (b - 1) ≤ x4 ∧ x4 ≤ dL E (a - 1) (b - 1) + 1 := by
              rw [e4]
              by_cases q : E (a - 1) (b - 1)
              · rw [rh_if_t q]; omega
              · rw [rh_if_f q]; omega
            have e5 : rh_if (dL E a (b - 1) < dL E (a - 1) b) (dL E a (b - 1)) (dL E (a - 1) b) = min (dL E (a - 1) b) (dL E a (b - 1)) := by
              by_cases q : dL E a (b - 1) < dL E (a - 1) b
              · rw [rh_if_t q]; omega
              · rw [rh_if_f q]; omega
            rw [e5]
            refine ⟨⟨by omega, by omega⟩, ⟨by omega, by omega⟩, ⟨by omega, by omega⟩, ⟨by omega, by omega⟩, ?_⟩
            intro c hc
            have ec : c = min x4 (1 + min (dL E (a - 1) b) (dL E a (b - 1))) := by
              rw [hc]
              by_cases q : 1 + min (dL E (a - 1) b) (dL E a (b - 1)) < x4
              · rw [rh_if_t q]; omega
              · rw [rh_if_f q]; omega
            have ec2 : c = min (dL E (a - 1) (b - 1) + rh_if (E (a - 1) (b - 1)) 0 1) (1 + min (dL E (a - 1) b) (dL E a (b - 1))) := by rw [← e4]; exact ec
            have no : ¬ (1 < a ∧ 1 < b ∧ E (a - 1) (b - 2) ∧ E (a - 2) (b - 1)) → c = dL E a b := fun q => by
              rw [ds]; exact dsp_e ec2 (fun y => absurd y q) (fun _ => rfl)
            refine ⟨fun q => ?_, fun q => ⟨rng, ⟨by omega, by omega⟩, fin c (no (fun y => q ⟨y.1, y.2.1⟩))⟩⟩
            have bq := B (a - 2) (by omega) (by omega)
            have ht := T (a - 2) (b - 2) (by omega) (by omega) (by omega) (by omega)
            have dt := dL_b (E := E) (a := a - 2) (b := b - 2) (by omega) (by omega)
            refine rh1.s (eS.fx 0 (x := a - 1) rfl ⟨by omega, by omega⟩ rfl) ?_
            refine rh1.s (vX18_changes_199 (hs_rw64 hh) (g64 (a - 1) (by omega) (by omega)) (LE0 rfl)) ?_
            refine rh1.of (rX18_changes_202 hh _ _ _ _ _ _ _ _ _ ?_)
            refine rh1.s (eS.fx 0 (x := b - 2) rfl ⟨by omega, by omega⟩ rfl) ?_
            refine rh1.s (vX18_changes_211 (hs_rw67 hh) (g67 (b - 2) (by omega) (by omega)) (LE0 rfl)) ?_
            refine rh1.of (rX18_changes_214 hh _ _ _ _ _ _ _ _ _ _ ?_)
            refine ⟨fun q1 => ?_, fun q1 => ⟨rng, ⟨by omega, by omega⟩, fin c (no (fun y => q1 ((hE _ _ (by omega) (by omega) (by omega) (by omega)).mpr y.2.2.1)))⟩⟩
            refine rh1.s (eS.fx 0 (x := a - 2) rfl ⟨by omega, by omega⟩ rfl) ?_
            refine rh1.s (vX18_changes_226 (hs_rw64 hh) (g64 (a - 2) (by omega) (by omega)) (LE0 rfl)) ?_
            refine rh1.of (rX18_changes_229 hh _ _ _ _ _ _ _ _ _ ?_)
            refine rh1.s (eS.fx 0 (x := b - 1) rfl ⟨by omega, by omega⟩ rfl) ?_
            refine rh1.s (vX18_changes_238 (hs_rw67 hh) (g67 (b - 1) (by omega) (by omega)) (LE0 rfl)) ?_
            refine rh1.of (rX18_changes_241 hh _ _ _ _ _ _ _ _ _ _ ?_)
            rw [show (m + 1) * (a - 2) + b - 2 = (m + 1) * (a - 2) + (b - 2) by omega, ht]
            refine ⟨fun q2 => ⟨⟨by omega, by omega⟩, ⟨by omega, by omega⟩, ?_⟩, fun q2 => ⟨rng, ⟨by omega, by omega⟩, fin c (no (fun y => q2 ((hE _ _ (by omega) (by omega) (by omega) (by omega)).mpr y.2.2.2)))⟩⟩
            intro v' hv'
            refine ⟨rng, ⟨by omega, by omega⟩, fin v' ?_⟩
            rw [ds]
            refine dsp_e ec2 (fun _ => ?_) (fun y => absurd ⟨q.1, q.2, (hE _ _ (by omega) (by omega) (by omega) (by omega)).mp q1, (hE _ _ (by omega) (by omega) (by omega) (by omega)).mp q2⟩ y)
            rw [hv']
            by_cases q3 : 1 + dL E (a - 2) (b - 2) < c
            · rw [rh_if_t q3]; omega
            · rw [rh_if_f q3]; omega
      refine rh1.of (rX18_changes_28 hh _ _ _ _ _ _ ?_)
      exact ⟨fun _ => w2 (m + 1).toNat 0 X (by omega) (by omega) f T, fun z => by omega⟩
  refine rh1.of (rX18_changes_0 hh _ _ ?_)
  rw [h1, h2]
  exact ⟨hi, ⟨by omega, by omega⟩, w1 (n + 1).toNat 0 M (by omega) (by omega) frx.rf (fun a' b' a0 b0 b1 h => by omega)⟩
theorem c_changesM (hm : rh_ms wm) {E : Int → Int → Prop} {i n m : Int} (hi : 0 ≤ i ∧ i < 150) (hn : 0 ≤ n ∧ n ≤ 12) (hm' : 0 ≤ m ∧ m ≤ 12) (M : rhM) (h1 : M 89 i = n) (hE : ∀ t s, 0 ≤ t → t < n → 0 ≤ s → s < m → (M 88 (12 * i + t) = M 1 s ↔ E t s)) :
    rC1 wm YX32_changes 1 [(2, 0), (0, i), (0, m)] M (fun r M' => r = dL E n m ∧ frx (fun c _ => c = 96) M M') := by
  refine rC1.of (by decide) (LE0 rfl) ?_
  generalize hPost : (fun (r : Int) (M' : rhM) => r = dL E n m ∧ frx (fun c _ => c = 96) M M') = Post
  have w1 : ∀ (k : Nat) (a : Int) (X : rhM), a + k = n + 1 → 0 ≤ a → frx (fun c _ => c = 96) M X → Tdl E 15 m (X 96) a 0 → rh1 wm YX32_changes 1 10 [(0, 2, 0), (1, 0, i), (2, 0, m), (3, 0, n), (4, 0, a)] [] X Post := by
    intro k
    induction k with
    | zero =>
      intro a X ha a0 f T
      refine rh1.of (rX32_changes_10 hm _ _ _ _ _ ?_)
      refine ⟨fun z => by omega, fun _ => ⟨⟨by omega, by omega⟩, ?_⟩⟩
      rw [T n m (by omega) (by omega) (by omega) (by omega), ← hPost]
      exact ⟨rfl, f⟩
    | succ k ih =>
      intro a X ha a0 f T
      have w2 : ∀ (k2 : Nat) (b : Int) (X : rhM), b + k2 = m + 1 → 0 ≤ b → frx (fun c _ => c = 96) M X → Tdl E 15 m (X 96) a b → rh1 wm YX32_changes 1 19 [(0, 2, 0), (1, 0, i), (2, 0, m), (3, 0, n), (4, 0, a), (5, 0, b)] [] X Post := by
        intro k2
        induction k2 with
        | zero =>
          intro b X hb b0 f T
          have e : b = m + 1 := (by omega)
          rw [e] at T
          refine rh1.of (rX32_changes_19 hm _ _ _ _ _ _ ?_)
          exact ⟨fun z => by omega, fun _ => ⟨⟨by omega, by omega⟩, ih (a + 1) X (by omega) (by omega) f T.nx⟩⟩
        | succ k2 ih2 =>
          intro b X hb b0 f T
          have fin : ∀ v, v = dL E a b → rh1 wm YX32_changes 1 19 [(0, 2, 0), (1, 0, i), (2, 0, m), (3, 0, n), (4, 0, a), (5, 0, b + 1)] [] (rh_set X 96 (15 * a + b) v) Post := fun v hv =>
            ih2 (b + 1) _ (by omega) (by omega) (f.st rfl) (T.st (by omega) ⟨by omega, by omega⟩ hv)
          have rng : 0 ≤ 15 * a + b ∧ 15 * a + b < 225 := ⟨by omega, by omega⟩
          refine rh1.of (rX32_changes_19 hm _ _ _ _ _ _ ?_)
          refine ⟨fun _ => ?_, fun z => by omega⟩
          intro v hv
          by_cases z : a = 0 ∨ b = 0
          · have ev : v = dL E a b := by
              by_cases q : a = 0
              · rw [hv, rh_if_t q, q, dL_0]
              · have q2 : b = 0 := (by omega)
                rw [hv, rh_if_f q, rh_if_t q2, q2, dL_c a0]
            exact ⟨fun y => by omega, fun _ => ⟨rng, ⟨by omega, by omega⟩, fin v ev⟩⟩
          · have a1 : 1 ≤ a := (by omega)
            have b1 : 1 ≤ b := (by omega)
            have hx := T (a - 1) (b - 1) (by omega) (by omega) (by omega) (by omega)
            have hy := T (a - 1) b (by omega) (by omega) (by omega) (by omega)
            have hz := T a (b - 1) (by omega) (by omega) (by omega) (by omega)
            have dx := dL_b (E := E) (a := a - 1) (b := b - 1) (by omega) (by omega)
            have dy := dL_b (E := E) (a := a - 1) (b := b) (by omega) (by omega)
            have dz := dL_b (E := E) (a := a) (b := b - 1) (by omega) (by omega)
            have ds := dL_s (E := E) a1 b1
            rw [show 15 * (a - 1) + b - 1 = 15 * (a - 1) + (b - 1) by omega, show 15 * a + b - 1 = 15 * a + (b - 1) by omega, hx, hy, hz, show 12 * i + a - 1 = 12 * i + (a - 1) by omega, show 12 * i + a - 2 = 12 * i + (a - 2) by omega, show 15 * (a - 2) + b - 2 = 15 * (a - 2) + (b - 2) by omega, f 88 _ (by omega), f 88 _ (by omega), f 1 _ (by omega), f 1 _ (by omega)]
            refine ⟨fun _ => ⟨⟨by omega, by omega⟩, ?_⟩, fun y => by omega⟩
            intro x1 e1
            refine ⟨⟨by omega, by omega⟩, ⟨by omega, by omega⟩, ⟨by omega, by omega⟩, ⟨by omega, by omega⟩, ⟨by omega, by omega⟩, ?_⟩
            intro x2 e2
            have f2 : x2 = 1 + min (dL E (a - 1) b) (dL E a (b - 1)) := by
              rw [e2]
              by_cases q : dL E (a - 1) b + 1 < dL E a (b - 1) + 1
              · rw [rh_if_t q]; omega
              · rw [rh_if_f q]; omega
            have e3 : rh_if (x1 ≠ M 1 (b - 1)) (1 : Int) 0 = rh_if (E (a - 1) (b - 1)) 0 1 := by
              by_cases q : E (a - 1) (b - 1)
              · rw [rh_if_t q, rh_if_f (fun y => y (by rw [e1]; exact (hE _ _ (by omega) (by omega) (by omega) (by omega)).mpr q))]
              · rw [rh_if_f q, rh_if_t (fun y => q ((hE _ _ (by omega) (by omega) (by omega) (by omega)).mp (by rw [← e1]; exact y)))]
            have b3 : 0 ≤ rh_if (E (a - 1) (b - 1)) (0 : Int) 1 ∧ rh_if (E (a - 1) (b - 1)) (0 : Int) 1 ≤ 1 := by
              by_cases q : E (a - 1) (b - 1)
              · rw [rh_if_t q]; omega
              · rw [rh_if_f q]; omega
            rw [e3]
            refine ⟨⟨by omega, by omega⟩, ⟨by omega, by omega⟩, ?_⟩
            intro c hc
            have ec2 : c = min (dL E (a - 1) (b - 1) + rh_if (E (a - 1) (b - 1)) 0 1) (1 + min (dL E (a - 1) b) (dL E a (b - 1))) := by
              rw [hc, f2]
              by_cases q : 1 + min (dL E (a - 1) b) (dL E a (b - 1)) < dL E (a - 1) (b - 1) + rh_if (E (a - 1) (b - 1)) 0 1
              · rw [rh_if_t q]; omega
              · rw [rh_if_f q]; omega
            refine ⟨fun _ _ => ⟨by omega, by omega⟩, fun _ _ _ => ⟨by omega, by omega⟩, ?_⟩
            intro g hg
            refine ⟨fun q => ?_, fun q => ?_⟩
            · have qq : (1 < a) ∧ ((1 < b) ∧ ((x1 = M 1 (b - 2)) ∧ (M 88 (12 * i + (a - 2)) = M 1 (b - 1)))) := by
                by_cases y : (1 < a) ∧ ((1 < b) ∧ ((x1 = M 1 (b - 2)) ∧ (M 88 (12 * i + (a - 2)) = M 1 (b - 1))))
                · exact y
                · rw [rh_if_f y] at hg; exact absurd hg q
              obtain ⟨q1, q2, q3, q4⟩ := qq
              have ht := T (a - 2) (b - 2) (by omega) (by omega) (by omega) (by omega)
              have dt := dL_b (E := E) (a := a - 2) (b := b - 2) (by omega) (by omega)
              rw [ht]
              refine ⟨⟨by omega, by omega⟩, ⟨by omega, by omega⟩, ?_⟩
              intro v' hv'
              refine ⟨rng, ⟨by omega, by omega⟩, fin v' ?_⟩
              rw [ds]
              refine dsp_e ec2 (fun _ => ?_) (fun y => absurd ⟨q1, q2, (hE _ _ (by omega) (by omega) (by omega) (by omega)).mp (by rw [← e1]; exact q3), (hE _ _ (by omega) (by omega) (by omega) (by omega)).mp q4⟩ y)
              rw [hv']
              by_cases q5 : c < dL E (a - 2) (b - 2) + 1
              · rw [rh_if_t q5]; omega
              · rw [rh_if_f q5]; omega
            · intro v' hv'
              refine ⟨rng, ⟨by omega, by omega⟩, fin v' ?_⟩
              rw [ds, hv']
              refine dsp_e ec2 (fun y => absurd ?_ q) (fun _ => rfl)
              rw [hg, rh_if_t ⟨y.1, y.2.1, by rw [e1]; exact (hE _ _ (by omega) (by omega) (by omega) (by omega)).mpr y.2.2.1, (hE _ _ (by omega) (by omega) (by omega) (by omega)).mpr y.2.2.2⟩]
              decide
      refine rh1.of (rX32_changes_10 hm _ _ _ _ _ ?_)
      exact ⟨fun _ => w2 (m + 1).toNat 0 X (by omega) (by omega) f T, fun z => by omega⟩
  refine rh1.of (rX32_changes_0 hm _ _ _ ?_)
  rw [h1]
  exact ⟨⟨by omega, by omega⟩, w1 (n + 1).toNat 0 M (by omega) (by omega) frx.rf (fun a' b' a0 b0 b1 h => by omega)⟩
end Near
