/-! ===== LAYER 2: the press: forms of letters, drawing ===== -/
section Press
variable {wh wm : rhW}
/-- form k is this letter of this face -/
def Efm (B : rhM) (face c k : Int) : Prop := B 63 k = face ∧ B 64 k = c
theorem c_formOf (hh : rh_hs wh) {A B : rhM} (R : Rfm A B) {face c : Int} : eC wh YX17_formOf 0 [(2, 41), (0, face), (0, c)] A (fwd (Efm B face c) (B 0 89).toNat 0) A := by
  refine eC.of1 (rC1.of (by decide) (LE0 rfl) ?_)
  obtain ⟨r1, r2, r3⟩ := R
  obtain ⟨n, hn⟩ : ∃ n, B 0 89 = n := ⟨_, rfl⟩
  rw [hn] at r1 r2 r3 ⊢
  have w : ∀ (u : Nat) (k : Int), k + u = n → 0 ≤ k → rh1 wh YX17_formOf 0 2 [(0, 2, 41), (1, 0, face), (2, 0, c), (3, 0, k)] [] A (fun r M' => r = fwd (Efm B face c) u k ∧ M' = A) := by
    intro u
    induction u with
    | zero =>
      intro k hk k0
      refine rh1.of (rX17_formOf_2 hh _ _ _ _ ?_)
      rw [r1, rh_if_t (show k = n by omega)]
      exact ⟨fun z => by omega, fun _ => ⟨rfl, rfl⟩⟩
    | succ u ih =>
      intro k hk k0
      obtain ⟨f1, f2, -⟩ := r3 k k0 (by omega)
      refine rh1.of (rX17_formOf_2 hh _ _ _ _ ?_)
      rw [r1, f1.1, f2.1, rh_if_f (show ¬ k = n by omega)]
      refine ⟨fun _ => ⟨⟨by omega, by omega⟩, fun _ => ⟨by omega, by omega⟩, fun z => ⟨⟨by omega, by omega⟩, ?_⟩, fun z => ⟨?_, rfl⟩⟩, fun z => by omega⟩
      · rw [fwd_f (fun y => z.elim (fun a => a y.1) (fun a => a y.2))]
        exact ih (k + 1) (by omega) (by omega)
      · rw [fwd_t ⟨Classical.byContradiction (fun y => z (.inl y)), Classical.byContradiction (fun y => z (.inr y))⟩]
  refine rh1.of (rX17_formOf_0 hh _ _ _ ?_)
  exact w n.toNat 0 (by omega) (by omega)
theorem c_leastForm (hm : rh_ms wm) {B : rhM} (h : 0 ≤ B 0 89 ∧ B 0 89 ≤ 150) {face c : Int} : eC wm YX32_leastForm 0 [(2, 0), (0, face), (0, c)] B (fwd (Efm B face c) (B 0 89).toNat 0) B := by
  refine eC.of1 (rC1.of (by decide) (LE0 rfl) ?_)
  obtain ⟨n, hn⟩ : ∃ n, B 0 89 = n := ⟨_, rfl⟩
  rw [hn] at h ⊢
  have w : ∀ (u : Nat) (k : Int), k + u = n → 0 ≤ k → rh1 wm YX32_leastForm 0 2 [(0, 2, 0), (1, 0, face), (2, 0, c), (3, 0, k)] [] B (fun r M' => r = fwd (Efm B face c) u k ∧ M' = B) := by
    intro u
    induction u with
    | zero =>
      intro k hk k0
      refine rh1.of (rX32_leastForm_2 hm _ _ _ _ ?_)
      rw [hn]
      exact ⟨fun z => by omega, fun _ => ⟨rfl, rfl⟩⟩
    | succ u ih =>
      intro k hk k0
      refine rh1.of (rX32_leastForm_2 hm _ _ _ _ ?_)
      rw [hn]
      refine ⟨fun _ => ⟨⟨by omega, by omega⟩, fun _ => ⟨by omega, by omega⟩, fun z => ⟨(fwd_t z).symm, rfl⟩, fun z => ⟨⟨by omega, by omega⟩, ?_⟩⟩, fun z => by omega⟩
      rw [fwd_f (E := Efm B face c) z]
      exact ih (k + 1) (by omega) (by omega)
  refine rh1.of (rX32_leastForm_0 hm _ _ _ ?_)
  exact w n.toNat 0 (by omega) (by omega)
/-- the height of a face -/
noncomputable def hgt (B : rhM) (face : Int) : Nat → Int → Int → Int
  | 0, _, c => c
  | n + 1, k, c => hgt B face n (k + 1) (rh_if (B 63 k = face) (rh_if (c < B 66 k + B 67 k) (B 66 k + B 67 k) c) c)
theorem hgt_b {B : rhM} {face : Int} : ∀ (n : Nat) (k c : Int), (∀ j, k ≤ j → j < k + n → 0 ≤ B 66 j + B 67 j ∧ B 66 j + B 67 j ≤ 120) → (0 ≤ c ∧ c ≤ 120) → (0 ≤ hgt B face n k c ∧ hgt B face n k c ≤ 120) ∧ c ≤ hgt B face n k c ∧ ∀ j, k ≤ j → j < k + n → B 63 j = face → B 66 j + B 67 j ≤ hgt B face n k c
  | 0, k, c => fun _ hc => ⟨hc, Int.le_refl _, fun j j0 j1 => by omega⟩
  | n + 1, k, c => fun h hc => by
    have hk := h k (by omega) (by omega)
    have e : (0 ≤ rh_if (B 63 k = face) (rh_if (c < B 66 k + B 67 k) (B 66 k + B 67 k) c) c ∧ rh_if (B 63 k = face) (rh_if (c < B 66 k + B 67 k) (B 66 k + B 67 k) c) c ≤ 120) ∧ c ≤ rh_if (B 63 k = face) (rh_if (c < B 66 k + B 67 k) (B 66 k + B 67 k) c) c ∧ (B 63 k = face → B 66 k + B 67 k ≤ rh_if (B 63 k = face) (rh_if (c < B 66 k + B 67 k) (B 66 k + B 67 k) c) c) := by
      by_cases q : B 63 k = face
      · rw [rh_if_t q]
        by_cases q2 : c < B 66 k + B 67 k
        · rw [rh_if_t q2]; exact ⟨by omega, by omega, fun _ => by omega⟩
        · rw [rh_if_f q2]; exact ⟨by omega, by omega, fun _ => by omega⟩
      · rw [rh_if_f q]; exact ⟨hc, by omega, fun z => absurd z q⟩
    obtain ⟨a1, a2, a3⟩ := hgt_b (B := B) (face := face) n (k + 1) _ (fun j j0 j1 => h j (by omega) (by omega)) e.1
    simp only [hgt]
    refine ⟨a1, by omega, fun j j0 j1 hj => ?_⟩
    by_cases ej : j = k
    · subst ej
      have := e.2.2 hj
      omega
    · exact a3 j (by omega) (by omega) hj
theorem c_height (hh : rh_hs wh) {A B : rhM} (R : Rfm A B) {face : Int} : eC wh YX17_height 1 [(2, 41), (0, face)] A (hgt B face (B 0 89).toNat 0 0) A := by
  refine eC.of1 (rC1.of (by decide) (LE0 rfl) ?_)
  obtain ⟨r1, r2, r3⟩ := R
  obtain ⟨n, hn⟩ : ∃ n, B 0 89 = n := ⟨_, rfl⟩
  rw [hn] at r1 r2 r3 ⊢
  have w : ∀ (u : Nat) (k c : Int), k + u = n → 0 ≤ k → rh1 wh YX17_height 1 4 [(0, 2, 41), (1, 0, face), (2, 0, c), (3, 0, k)] [] A (fun r M' => r = hgt B face u k c ∧ M' = A) := by
    intro u
    induction u with
    | zero =>
      intro k c hk k0
      refine rh1.of (rX17_height_4 hh _ _ _ _ ?_)
      rw [r1]
      exact ⟨fun z => by omega, fun _ => ⟨rfl, rfl⟩⟩
    | succ u ih =>
      intro k c hk k0
      obtain ⟨f1, -, -, f4, f5, -⟩ := r3 k k0 (by omega)
      refine rh1.of (rX17_height_4 hh _ _ _ _ ?_)
      rw [r1, f1.1, f4.1, f5.1]
      refine ⟨fun _ => ⟨⟨by omega, by omega⟩, fun _ => ⟨by omega, by omega⟩, fun _ => ⟨by omega, by omega⟩, fun _ => ⟨by omega, by omega⟩, ?_⟩, fun z => by omega⟩
      (intro zq hzq; replace hzq := hzq.symm; subst hzq)
      exact ⟨⟨by omega, by omega⟩, ih (k + 1) _ (by omega) (by omega)⟩
  refine rh1.of (rX17_height_0 hh _ _ ?_)
  exact w n.toNat 0 0 (by omega) (by decide)
theorem mx_c {c s : Int} : rh_if (s < c) c s = rh_if (c < s) s c := by
  by_cases q : s < c
  · rw [rh_if_t q, rh_if_f (by omega)]
  · rw [rh_if_f q]
    by_cases q2 : c < s
    · rw [rh_if_t q2]
    · rw [rh_if_f q2]; omega
theorem c_faceHigh (hm : rh_ms wm) {A B : rhM} (R : Rfm A B) {face : Int} : eC wm YX32_faceHigh 1 [(2, 0), (0, face)] B (hgt B face (B 0 89).toNat 0 0) B := by
  refine eC.of1 (rC1.of (by decide) (LE0 rfl) ?_)
  obtain ⟨r1, r2, r3⟩ := R
  obtain ⟨n, hn⟩ : ∃ n, B 0 89 = n := ⟨_, rfl⟩
  rw [hn] at r1 r2 r3 ⊢
  have w : ∀ (u : Nat) (k c : Int), k + u = n → 0 ≤ k → rh1 wm YX32_faceHigh 1 4 [(0, 2, 0), (1, 0, face), (2, 0, c), (3, 0, k)] [] B (fun r M' => r = hgt B face u k c ∧ M' = B) := by
    intro u
    induction u with
    | zero =>
      intro k c hk k0
      refine rh1.of (rX32_faceHigh_4 hm _ _ _ _ ?_)
      rw [hn]
      exact ⟨fun z => by omega, fun _ => ⟨rfl, rfl⟩⟩
    | succ u ih =>
      intro k c hk k0
      obtain ⟨f1, -, -, f4, f5, -⟩ := r3 k k0 (by omega)
      refine rh1.of (rX32_faceHigh_4 hm _ _ _ _ ?_)
      rw [hn, mx_c]
      refine ⟨fun _ => ⟨⟨by omega, by omega⟩, fun _ => ⟨by omega, by omega⟩, fun _ => ⟨by omega, by omega⟩, fun _ => ⟨by omega, by omega⟩, ?_⟩, fun z => by omega⟩
      (intro zq hzq; replace hzq := hzq.symm; subst hzq)
      exact ⟨⟨by omega, by omega⟩, ih (k + 1) _ (by omega) (by omega)⟩
  refine rh1.of (rX32_faceHigh_0 hm _ _ ?_)
  exact w n.toNat 0 0 (by omega) (by decide)
/-- a dot of a form; the pixels of a letter -/
def dtf (B : rhM) (f u v : Int) : Prop := rh_and (rh_shr (B 69 (24 * f + v)) u) 1 = 1
def Dtr (B : rhM) (f s x y w v u0 q : Int) : Prop := ∃ u, (u0 ≤ u ∧ u < s * B 65 f) ∧ dtf B f (u / s) (v / s) ∧ q = w * (y + v) + (x + u)
def Dtl (B : rhM) (f s x y w v0 q : Int) : Prop := ∃ v, (v0 ≤ v ∧ v < s * B 66 f) ∧ Dtr B f s x y w v 0 q
theorem div_b {v s h : Int} (hs : 1 ≤ s) (h0 : 0 ≤ v) (h1 : v < s * h) : 0 ≤ v / s ∧ v / s < h := by
  refine ⟨Int.ediv_nonneg h0 (by omega), ?_⟩
  apply Int.ediv_lt_of_lt_mul (by omega)
  rw [Int.mul_comm]
  exact h1
theorem Dtr_0 {B : rhM} {f s x y w v q u0 : Int} (h : s * B 65 f ≤ u0) : ¬ Dtr B f s x y w v u0 q := fun ⟨u, a, _⟩ => by omega
theorem Dtr_1 {B : rhM} {f s x y w v q u0 : Int} (h : u0 < s * B 65 f) : Dtr B f s x y w v u0 q ↔ (dtf B f (u0 / s) (v / s) ∧ q = w * (y + v) + (x + u0)) ∨ Dtr B f s x y w v (u0 + 1) q := by
  constructor
  · rintro ⟨u, a, b, c⟩
    by_cases e : u = u0
    · rw [e] at b c; exact .inl ⟨b, c⟩
    · exact .inr ⟨u, by omega, b, c⟩
  · rintro (⟨b, c⟩ | ⟨u, a, b, c⟩)
    · exact ⟨u0, by omega, b, c⟩
    · exact ⟨u, by omega, b, c⟩
theorem Dtl_0 {B : rhM} {f s x y w q v0 : Int} (h : s * B 66 f ≤ v0) : ¬ Dtl B f s x y w v0 q := fun ⟨v, a, _⟩ => by omega
theorem Dtl_1 {B : rhM} {f s x y w q v0 : Int} (h : v0 < s * B 66 f) : Dtl B f s x y w v0 q ↔ Dtr B f s x y w v0 0 q ∨ Dtl B f s x y w (v0 + 1) q := by
  constructor
  · rintro ⟨v, a, b⟩
    by_cases e : v = v0
    · rw [e] at b; exact .inl b
    · exact .inr ⟨v, by omega, b⟩
  · rintro (b | ⟨v, a, b⟩)
    · exact ⟨v0, by omega, b⟩
    · exact ⟨v, by omega, b⟩
theorem rh_if_or {p q : Prop} {a b c : Int} (h : a = b) : rh_if q a (rh_if p b c) = rh_if (p ∨ q) b c := by
  subst h
  by_cases z : q
  · rw [rh_if_t z, rh_if_t (.inr z)]
  · rw [rh_if_f z]
    by_cases y : p
    · rw [rh_if_t y, rh_if_t (.inl y)]
    · rw [rh_if_f y, rh_if_f (fun k => k.elim y z)]
theorem h_drawR (hh : rh_hs wh) {B : rhM} {f s x y w h v : Int} (hf : 0 ≤ f ∧ f < 150) (hs : 1 ≤ s ∧ s ≤ 4) (hx : 0 ≤ x ∧ x + s * B 65 f ≤ w) (hy : 0 ≤ y ∧ y + v < h) (hv : 0 ≤ v ∧ v < s * B 66 f) (h66 : 1 ≤ B 66 f ∧ B 66 f ≤ 24) (h65 : 1 ≤ B 65 f ∧ B 65 f ≤ 24) (hw : w ≤ 128 ∧ h ≤ 96) (hN : w * h ≤ 6144) :
    ∀ (n : Nat) (u : Int) (A : rhM), u + n = s * B 65 f → 0 ≤ u → A 8 1 = w → A 44 f = B 65 f → (∀ j, 0 ≤ j → j < 24 → A 48 (24 * f + j) = B 69 (24 * f + j)) → ∃ A', eS wh YX23_draw 1 19 [(0, 2, 202), (1, 2, 41), (2, 0, f), (3, 0, s), (4, 0, x), (5, 0, y), (6, 0, v), (7, 0, u)] [] A 19 [(0, 2, 202), (1, 2, 41), (2, 0, f), (3, 0, s), (4, 0, x), (5, 0, y), (6, 0, v), (7, 0, s * B 65 f)] [] A' ∧ (∀ q, A' 9 q = rh_if (Dtr B f s x y w v u q) 0 (A 9 q)) ∧ frx (fun c _ => c = 9) A A' := by
  have b1 := mulb (show 0 ≤ s by omega) hs.2 (show 0 ≤ B 65 f by omega) h65.2
  have d2 := div_b hs.1 hv.1 hv.2
  intro n
  induction n with
  | zero =>
    intro u A hu u0 a8 a44 a48
    have e : u = s * B 65 f := by omega
    rw [e]
    exact ⟨A, eS.rf, fun q => by rw [rh_if_f (Dtr_0 (Int.le_refl _))], frx.rf⟩
  | succ n ih =>
    intro u A hu u0 a8 a44 a48
    have d1 := div_b (h := B 65 f) hs.1 u0 (show u < s * B 65 f by omega)
    have ml := mul_lt (a := w) (b := h) (x := x + u) (y := y + v) (by omega) (by omega) (by omega) (by omega)
    have mn := Int.mul_nonneg (show 0 ≤ w by omega) (show 0 ≤ y + v by omega)
    by_cases q : dtf B f (u / s) (v / s)
    · obtain ⟨A1, hA1⟩ : ∃ A1, A1 = rh_set A 9 (w * (y + v) + (x + u)) 0 := ⟨_, rfl⟩
      have f1 : frx (fun c _ => c = 9) A A1 := by rw [hA1]; exact frx.rf.st rfl
      obtain ⟨A', E, v1, F⟩ := ih (u + 1) A1 (by omega) (by omega) (by rw [f1 8 1 (by decide)]; exact a8) (by rw [f1 44 _ (by omega)]; exact a44) (fun j j0 j1 => by rw [f1 48 _ (by omega)]; exact a48 j j0 j1)
      refine ⟨A', eS.of (fun P HP => ?_), fun q0 => ?_, f1.tr F⟩
      · refine rh1.of (rX23_draw_19 hh _ _ _ _ _ _ _ ?_)
        rw [a44, a8, a48 (v / s) d2.1 (by omega)]
        refine ⟨hf, ⟨by omega, by omega⟩, fun _ => ⟨⟨by omega, by omega⟩, ⟨by omega, by omega⟩, ⟨by omega, by omega⟩, fun _ => ⟨⟨by omega, by omega⟩, ⟨by omega, by omega⟩, ⟨by omega, by omega⟩, ⟨by omega, by omega⟩, ?_⟩, fun z => absurd q z⟩, fun z => by omega⟩
        rw [i2b_e (show 0 ≤ (0 : Int) ∧ (0 : Int) ≤ 127 by decide), show (8 : Int) + 1 = 9 from rfl, ← hA1]
        exact rh1.s E HP
      · rw [v1 q0, hA1]
        by_cases e : q0 = w * (y + v) + (x + u)
        · rw [e, rh_set_s, rh_if_t ((Dtr_1 (by omega)).mpr (.inl ⟨q, rfl⟩))]
          by_cases z : Dtr B f s x y w v (u + 1) (w * (y + v) + (x + u))
          · rw [rh_if_t z]
          · rw [rh_if_f z]
        · rw [rh_set_j e]
          by_cases z : Dtr B f s x y w v (u + 1) q0
          · rw [rh_if_t z, rh_if_t ((Dtr_1 (by omega)).mpr (.inr z))]
          · rw [rh_if_f z, rh_if_f (fun k => ((Dtr_1 (by omega)).mp k).elim (fun a => e a.2) z)]
    · obtain ⟨A', E, v1, F⟩ := ih (u + 1) A (by omega) (by omega) a8 a44 a48
      refine ⟨A', eS.of (fun P HP => ?_), fun q0 => ?_, F⟩
      · refine rh1.of (rX23_draw_19 hh _ _ _ _ _ _ _ ?_)
        rw [a44, a8, a48 (v / s) d2.1 (by omega)]
        exact ⟨hf, ⟨by omega, by omega⟩, fun _ => ⟨⟨by omega, by omega⟩, ⟨by omega, by omega⟩, ⟨by omega, by omega⟩, fun z => absurd z q, fun _ => ⟨⟨by omega, by omega⟩, rh1.s E HP⟩⟩, fun z => by omega⟩
      · rw [v1 q0]
        by_cases z : Dtr B f s x y w v (u + 1) q0
        · rw [rh_if_t z, rh_if_t ((Dtr_1 (by omega)).mpr (.inr z))]
        · rw [rh_if_f z, rh_if_f (fun k => ((Dtr_1 (by omega)).mp k).elim (fun a => q a.1) z)]
/-- the house draws a letter -/
theorem h_draw (hh : rh_hs wh) {A B : rhM} {f s x y w h : Int} (R : FmR A B f) (hf : 0 ≤ f ∧ f < 150) (hs : 1 ≤ s ∧ s ≤ 4) (hx : 0 ≤ x ∧ x + s * B 65 f ≤ w) (hy : 0 ≤ y ∧ y + s * B 66 f ≤ h) (hw : w ≤ 128 ∧ h ≤ 96) (hN : w * h ≤ 6144) (a8 : A 8 1 = w) : ∃ A', eC wh YX23_draw 1 [(2, 202), (2, 41), (0, f), (0, s), (0, x), (0, y)] A 0 A' ∧ (∀ q, A' 9 q = rh_if (Dtl B f s x y w 0 q) 0 (A 9 q)) ∧ frx (fun c _ => c = 9) A A' := by
  obtain ⟨-, -, f3, f4, -, -, f7⟩ := R
  have b1 := mulb (show 0 ≤ s by omega) hs.2 (show 0 ≤ B 66 f by omega) f4.2.2
  have key : ∀ (n : Nat) (v : Int) (A0 : rhM), v + n = s * B 66 f → 0 ≤ v → frx (fun c _ => c = 9) A A0 → ∃ A', (∀ P : Int → rhM → Prop, P 0 A' → rh1 wh YX23_draw 1 3 [(0, 2, 202), (1, 2, 41), (2, 0, f), (3, 0, s), (4, 0, x), (5, 0, y), (6, 0, v)] [] A0 P) ∧ (∀ q, A' 9 q = rh_if (Dtl B f s x y w v q) 0 (A0 9 q)) ∧ frx (fun c _ => c = 9) A A' := by
    intro n
    induction n with
    | zero =>
      intro v A0 hv v0 F
      have e : v = s * B 66 f := by omega
      refine ⟨A0, fun P HP => ?_, fun q => by rw [rh_if_f (Dtl_0 (by omega))], F⟩
      refine rh1.of (rX23_draw_3 hh _ _ _ _ _ _ ?_)
      rw [F 45 _ (by omega), f4.1]
      exact ⟨hf, ⟨by omega, by omega⟩, fun z => by omega, fun _ => HP⟩
    | succ n ih =>
      intro v A0 hv v0 F
      obtain ⟨A1, E1, v1, F1⟩ := h_drawR hh (B := B) (f := f) (s := s) (x := x) (y := y) (w := w) (h := h) (v := v) hf hs hx ⟨by omega, by omega⟩ ⟨by omega, by omega⟩ f4.2 f3.2 hw hN (s * B 65 f).toNat 0 A0 (by
        have := mulb (show 0 ≤ s by omega) hs.2 (show 0 ≤ B 65 f by omega) f3.2.2
        omega) (by decide) (by rw [F 8 1 (by decide)]; exact a8) (by rw [F 44 _ (by omega)]; exact f3.1) (fun j j0 j1 => by rw [F 48 _ (by omega)]; exact f7 j j0 j1)
      have b3 := mulb (show 0 ≤ s by omega) hs.2 (show 0 ≤ B 65 f by omega) f3.2.2
      obtain ⟨A', E, v2, F2⟩ := ih (v + 1) A1 (by omega) (by omega) (F.tr F1)
      refine ⟨A', fun P HP => ?_, fun q => ?_, F2⟩
      · refine rh1.of (rX23_draw_3 hh _ _ _ _ _ _ ?_)
        rw [F 45 _ (by omega), f4.1]
        refine ⟨hf, ⟨by omega, by omega⟩, fun _ => rh1.s E1 ?_, fun z => by omega⟩
        refine rh1.of (rX23_draw_19 hh _ _ _ _ _ _ _ ?_)
        rw [(F.tr F1) 44 _ (by omega), f3.1]
        exact ⟨hf, ⟨by omega, by omega⟩, fun z => by omega, fun _ => ⟨⟨by omega, by omega⟩, E P HP⟩⟩
      · rw [v2 q, v1 q]
        by_cases z : Dtl B f s x y w (v + 1) q
        · rw [rh_if_t z, rh_if_t ((Dtl_1 (by omega)).mpr (.inr z))]
        · rw [rh_if_f z]
          by_cases z2 : Dtr B f s x y w v 0 q
          · rw [rh_if_t z2, rh_if_t ((Dtl_1 (by omega)).mpr (.inl z2))]
          · rw [rh_if_f z2, rh_if_f (fun k => ((Dtl_1 (by omega)).mp k).elim z2 z)]
  obtain ⟨A', E, v, F⟩ := key (s * B 66 f).toNat 0 A (by omega) (by decide) frx.rf
  refine ⟨A', eC.of1 (rC1.of (by decide) (LE0 rfl) ?_), v, F⟩
  refine rh1.of (rX23_draw_0 hh _ _ _ _ _ ?_)
  exact E _ ⟨rfl, rfl⟩
theorem m_drawR (hm : rh_ms wm) {B : rhM} {t f s x y w h v : Int} (ht : 0 ≤ t ∧ t < 250) (hf : 0 ≤ f ∧ f < 150) (hs : 1 ≤ s ∧ s ≤ 4) (hx : 0 ≤ x ∧ x + s * B 65 f ≤ w) (hy : 0 ≤ y ∧ y + v < h) (hv : 0 ≤ v ∧ v < s * B 66 f) (h66 : 1 ≤ B 66 f ∧ B 66 f ≤ 24) (h65 : 1 ≤ B 65 f ∧ B 65 f ≤ 24) (hw : w ≤ 128 ∧ h ≤ 96) (hN : w * h ≤ 6144) (h163 : B 163 t = x) :
    ∀ (n : Nat) (u : Int) (X : rhM), u + n = s * B 65 f → 0 ≤ u → frx (fun c _ => c = 6) B X → ∃ X', eS wm YX32_putType 0 48 [(0, 2, 0), (1, 0, t), (2, 0, w), (3, 0, h), (4, 0, s), (5, 0, f), (6, 0, y), (7, 0, v), (8, 0, u)] [] X 48 [(0, 2, 0), (1, 0, t), (2, 0, w), (3, 0, h), (4, 0, s), (5, 0, f), (6, 0, y), (7, 0, v), (8, 0, s * B 65 f)] [] X' ∧ (∀ q, X' 6 q = rh_if (Dtr B f s x y w v u q) 0 (X 6 q)) ∧ frx (fun c _ => c = 6) B X' := by
  have b1 := mulb (show 0 ≤ s by omega) hs.2 (show 0 ≤ B 65 f by omega) h65.2
  have d2 := div_b hs.1 hv.1 hv.2
  intro n
  induction n with
  | zero =>
    intro u X hu u0 F
    have e : u = s * B 65 f := by omega
    rw [e]
    exact ⟨X, eS.rf, fun q => by rw [rh_if_f (Dtr_0 (Int.le_refl _))], F⟩
  | succ n ih =>
    intro u X hu u0 F
    have d1 := div_b (h := B 65 f) hs.1 u0 (show u < s * B 65 f by omega)
    have ml := mul_lt (a := w) (b := h) (x := x + u) (y := y + v) (by omega) (by omega) (by omega) (by omega)
    have mn := Int.mul_nonneg (show 0 ≤ w by omega) (show 0 ≤ y + v by omega)
    have e65 : X 65 f = B 65 f := F 65 _ (by omega)
    have e163 : X 163 t = x := by rw [F 163 _ (by omega)]; exact h163
    have e69 : ∀ j, X 69 j = B 69 j := fun j => F 69 j (by omega)
    by_cases q : dtf B f (u / s) (v / s)
    · obtain ⟨X1, hX1⟩ : ∃ X1, X1 = rh_set X 6 (w * (y + v) + (x + u)) 0 := ⟨_, rfl⟩
      obtain ⟨X', E, v1, F'⟩ := ih (u + 1) X1 (by omega) (by omega) (by rw [hX1]; exact F.st rfl)
      refine ⟨X', eS.of (fun P HP => ?_), fun q0 => ?_, F'⟩
      · refine rh1.of (rX32_putType_48 hm _ _ _ _ _ _ _ _ _ ?_)
        rw [e65, e163, e69]
        refine ⟨hf, ⟨by omega, by omega⟩, fun _ => ⟨⟨by omega, by omega⟩, ht, ⟨by omega, by omega⟩, ⟨by omega, by omega⟩, ⟨by omega, by omega⟩, ⟨by omega, by omega⟩, fun _ => ?_, fun z => absurd ⟨q, (by omega), (by omega), (by omega)⟩ z⟩, fun z => by omega⟩
        rw [Int.mul_comm (y + v) w, ← hX1]
        exact ⟨⟨by omega, by omega⟩, ⟨by omega, by omega⟩, rh1.s E HP⟩
      · rw [v1 q0, hX1]
        by_cases e : q0 = w * (y + v) + (x + u)
        · rw [e, rh_set_s, rh_if_t ((Dtr_1 (by omega)).mpr (.inl ⟨q, rfl⟩))]
          by_cases z : Dtr B f s x y w v (u + 1) (w * (y + v) + (x + u))
          · rw [rh_if_t z]
          · rw [rh_if_f z]
        · rw [rh_set_j e]
          by_cases z : Dtr B f s x y w v (u + 1) q0
          · rw [rh_if_t z, rh_if_t ((Dtr_1 (by omega)).mpr (.inr z))]
          · rw [rh_if_f z, rh_if_f (fun k => ((Dtr_1 (by omega)).mp k).elim (fun a => e a.2) z)]
    · obtain ⟨X', E, v1, F'⟩ := ih (u + 1) X (by omega) (by omega) F
      refine ⟨X', eS.of (fun P HP => ?_), fun q0 => ?_, F'⟩
      · refine rh1.of (rX32_putType_48 hm _ _ _ _ _ _ _ _ _ ?_)
        rw [e65, e163, e69]
        exact ⟨hf, ⟨by omega, by omega⟩, fun _ => ⟨⟨by omega, by omega⟩, ht, ⟨by omega, by omega⟩, ⟨by omega, by omega⟩, ⟨by omega, by omega⟩, ⟨by omega, by omega⟩, fun z => absurd z.1 q, fun _ => ⟨⟨by omega, by omega⟩, rh1.s E HP⟩⟩, fun z => by omega⟩
      · rw [v1 q0]
        by_cases z : Dtr B f s x y w v (u + 1) q0
        · rw [rh_if_t z, rh_if_t ((Dtr_1 (by omega)).mpr (.inr z))]
        · rw [rh_if_f z, rh_if_f (fun k => ((Dtr_1 (by omega)).mp k).elim (fun a => q a.1) z)]
/-- the model draws a letter -/
theorem m_draw (hm : rh_ms wm) {B : rhM} {t f s x y w h : Int} (ht : 0 ≤ t ∧ t < 250) (hf : 0 ≤ f ∧ f < 150) (hs : 1 ≤ s ∧ s ≤ 4) (hx : 0 ≤ x ∧ x + s * B 65 f ≤ w) (hy : 0 ≤ y ∧ y + s * B 66 f ≤ h) (h66 : 1 ≤ B 66 f ∧ B 66 f ≤ 24) (h65 : 1 ≤ B 65 f ∧ B 65 f ≤ 24) (hw : w ≤ 128 ∧ h ≤ 96) (hN : w * h ≤ 6144) (h163 : B 163 t = x) (h164 : B 164 t = y + s * B 66 f) (h165 : B 165 t = f) : ∃ B', eC wm YX32_putType 0 [(2, 0), (0, t), (0, w), (0, h), (0, s)] B 0 B' ∧ (∀ q, B' 6 q = rh_if (Dtl B f s x y w 0 q) 0 (B 6 q)) ∧ frx (fun c _ => c = 6) B B' := by
  have b1 := mulb (show 0 ≤ s by omega) hs.2 (show 0 ≤ B 66 f by omega) h66.2
  have b3 := mulb (show 0 ≤ s by omega) hs.2 (show 0 ≤ B 65 f by omega) h65.2
  have key : ∀ (n : Nat) (v : Int) (X : rhM), v + n = s * B 66 f → 0 ≤ v → frx (fun c _ => c = 6) B X → ∃ X', (∀ P : Int → rhM → Prop, P 0 X' → rh1 wm YX32_putType 0 30 [(0, 2, 0), (1, 0, t), (2, 0, w), (3, 0, h), (4, 0, s), (5, 0, f), (6, 0, y), (7, 0, v)] [] X P) ∧ (∀ q, X' 6 q = rh_if (Dtl B f s x y w v q) 0 (X 6 q)) ∧ frx (fun c _ => c = 6) B X' := by
    intro n
    induction n with
    | zero =>
      intro v X hv v0 F
      refine ⟨X, fun P HP => ?_, fun q => by rw [rh_if_f (Dtl_0 (by omega))], F⟩
      refine rh1.of (rX32_putType_30 hm _ _ _ _ _ _ _ _ ?_)
      rw [F 66 _ (by omega)]
      exact ⟨hf, ⟨by omega, by omega⟩, fun z => by omega, fun _ => HP⟩
    | succ n ih =>
      intro v X hv v0 F
      obtain ⟨X1, E1, v1, F1⟩ := m_drawR hm (B := B) (t := t) (f := f) (s := s) (x := x) (y := y) (w := w) (h := h) (v := v) ht hf hs hx ⟨by omega, by omega⟩ ⟨by omega, by omega⟩ h66 h65 hw hN h163 (s * B 65 f).toNat 0 X (by omega) (by decide) F
      obtain ⟨X', E, v2, F2⟩ := ih (v + 1) X1 (by omega) (by omega) F1
      refine ⟨X', fun P HP => ?_, fun q => ?_, F2⟩
      · refine rh1.of (rX32_putType_30 hm _ _ _ _ _ _ _ _ ?_)
        rw [F 66 _ (by omega)]
        refine ⟨hf, ⟨by omega, by omega⟩, fun _ => rh1.s E1 ?_, fun z => by omega⟩
        refine rh1.of (rX32_putType_48 hm _ _ _ _ _ _ _ _ _ ?_)
        rw [F1 65 _ (by omega)]
        exact ⟨hf, ⟨by omega, by omega⟩, fun z => by omega, fun _ => ⟨⟨by omega, by omega⟩, E P HP⟩⟩
      · rw [v2 q, v1 q]
        by_cases z : Dtl B f s x y w (v + 1) q
        · rw [rh_if_t z, rh_if_t ((Dtl_1 (by omega)).mpr (.inr z))]
        · rw [rh_if_f z]
          by_cases z2 : Dtr B f s x y w v 0 q
          · rw [rh_if_t z2, rh_if_t ((Dtl_1 (by omega)).mpr (.inl z2))]
          · rw [rh_if_f z2, rh_if_f (fun k => ((Dtl_1 (by omega)).mp k).elim z2 z)]
  obtain ⟨B', E, v, F⟩ := key (s * B 66 f).toNat 0 B (by omega) (by decide) frx.rf
  refine ⟨B', eC.of1 (rC1.of (by decide) (LE0 rfl) ?_), v, F⟩
  refine rh1.of (rX32_putType_0 hm _ _ _ _ _ ?_)
  rw [h165, h164]
  refine ⟨ht, ht, hf, ?_⟩
  rw [show y + s * B 66 f - s * B 66 f = y by omega]
  (intro zq hzq; replace hzq := hzq.symm; subst hzq)
  exact ⟨⟨by omega, by omega⟩, E _ ⟨rfl, rfl⟩⟩
end Press
