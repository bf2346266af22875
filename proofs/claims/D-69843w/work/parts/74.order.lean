/-! ===== LAYER 2: the order of blocks: pure, the house's and the model's methods ===== -/
section Order
variable {wh wm : rhW}
theorem rh_if_cg {α : Type} {P Q : Prop} {a b : α} (h : P ↔ Q) : rh_if P a b = rh_if Q a b := by rw [propext h]
theorem if1_ne {P : Prop} : rh_if P (1 : Int) 0 ≠ 0 ↔ P := by
  by_cases h : P
  · rw [rh_if_t h]; exact ⟨fun _ => h, fun _ => by decide⟩
  · rw [rh_if_f h]; exact ⟨fun z => absurd rfl z, fun z => absurd z h⟩
theorem if1_0 {P : Prop} : rh_if P (1 : Int) 0 = 0 ↔ ¬ P := by
  by_cases h : P
  · rw [rh_if_t h]; exact ⟨fun z => absurd z (by decide), fun z => absurd h z⟩
  · rw [rh_if_f h]; exact ⟨fun _ => h, fun _ => rfl⟩
theorem if1_b {P : Prop} : 0 ≤ rh_if P (1 : Int) 0 ∧ rh_if P (1 : Int) 0 ≤ 1 := by
  by_cases h : P
  · rw [rh_if_t h]; decide
  · rw [rh_if_f h]; decide
/-- the first of the least (by T, then L) of those alive -/
noncomputable def nxt (al : Int → Prop) (T L : Int → Int) : Nat → Int
  | 0 => -1
  | k + 1 => rh_if (al k ∧ (nxt al T L k = -1 ∨ T k < T (nxt al T L k) ∨ (T k = T (nxt al T L k) ∧ L k < L (nxt al T L k)))) (k : Int) (nxt al T L k)
theorem nxt_b {al : Int → Prop} {T L : Int → Int} : ∀ k : Nat, nxt al T L k = -1 ∨ (0 ≤ nxt al T L k ∧ nxt al T L k < k ∧ al (nxt al T L k))
  | 0 => .inl rfl
  | k + 1 => by
    simp only [nxt]
    by_cases c : al k ∧ (nxt al T L k = -1 ∨ T k < T (nxt al T L k) ∨ (T k = T (nxt al T L k) ∧ L k < L (nxt al T L k)))
    · rw [rh_if_t c]; exact .inr ⟨(by omega), (by omega), c.1⟩
    · rw [rh_if_f c]
      rcases nxt_b (al := al) (T := T) (L := L) k with h | ⟨h1, h2, h3⟩
      · exact .inl h
      · exact .inr ⟨h1, (by omega), h3⟩
theorem nxt_no {al : Int → Prop} {T L : Int → Int} : ∀ k : Nat, nxt al T L k = -1 → ∀ i : Int, 0 ≤ i → i < k → ¬ al i
  | 0 => fun _ i h0 h1 => by omega
  | k + 1 => fun h i h0 h1 ha => by
    simp only [nxt] at h
    by_cases c : al k ∧ (nxt al T L k = -1 ∨ T k < T (nxt al T L k) ∨ (T k = T (nxt al T L k) ∧ L k < L (nxt al T L k)))
    · rw [rh_if_t c] at h; omega
    · rw [rh_if_f c] at h
      by_cases e : i = k
      · exact c ⟨by rw [← e]; exact ha, .inl h⟩
      · exact nxt_no k h i h0 (by omega) ha
theorem nxt_cg {al al' : Int → Prop} {T L T' L' : Int → Int} : ∀ k : Nat, (∀ i : Int, 0 ≤ i → i < k → (al i ↔ al' i)) → (∀ i : Int, 0 ≤ i → i < k → al i → T i = T' i ∧ L i = L' i) → nxt al T L k = nxt al' T' L' k
  | 0 => fun _ _ => rfl
  | k + 1 => fun h h2 => by
    have e := nxt_cg k (fun i a b => h i a (by omega)) (fun i a b => h2 i a (by omega))
    simp only [nxt]
    rw [← e]
    have hk := h k (by omega) (by omega)
    refine rh_if_cg ?_
    rcases nxt_b (al := al) (T := T) (L := L) k with q | ⟨q1, q2, q3⟩
    · rw [q]; exact ⟨fun z => ⟨hk.mp z.1, .inl rfl⟩, fun z => ⟨hk.mpr z.1, .inl rfl⟩⟩
    · have u := h2 _ q1 (by omega) q3
      constructor
      · intro z
        have v := h2 k (by omega) (by omega) z.1
        rw [← v.1, ← v.2, ← u.1, ← u.2]
        exact ⟨hk.mp z.1, z.2⟩
      · intro z
        have v := h2 k (by omega) (by omega) (hk.mpr z.1)
        rw [← v.1, ← v.2, ← u.1, ← u.2] at z
        exact ⟨hk.mpr z.1, z.2⟩
def mid (T B : Int → Int) (i : Int) : Int := T i + (B i - T i) / 2
def shc (L R : Int → Int) (i j : Int) : Prop := L i < R j ∧ L j < R i
def btw (L T R B : Int → Int) (k i j : Int) : Prop := k ≠ i ∧ k ≠ j ∧ (mid T B i < mid T B k ∨ mid T B j < mid T B k) ∧ (mid T B k < mid T B i ∨ mid T B k < mid T B j) ∧ shc L R k i ∧ shc L R k j
def gob (L T R B : Int → Int) (n i j : Int) : Prop := (shc L R i j ∧ T i < T j) ∨ (R i ≤ L j ∧ (T i < B j ∧ T j < B i) ∧ ∀ k, 0 ≤ k → k < n → ¬ btw L T R B k i j)
def fre (L T R B : Int → Int) (n : Int) (D : Int → Prop) (j : Int) : Prop := ∀ i, 0 ≤ i → i < n → i ≠ j → D i → ¬ gob L T R B n i j
/-- boxes of blocks -/
def Bxb (L T R B : Int → Int) (n : Int) : Prop := ∀ i, 0 ≤ i → i < n → (0 ≤ L i ∧ L i < R i ∧ R i ≤ 128) ∧ (0 ≤ T i ∧ T i < B i ∧ B i ≤ 96)
def BxH (M : rhM) (x n : Int) (L T R B : Int → Int) : Prop := ∀ i, 0 ≤ i → i < n → M (x + 1) i = L i ∧ M (x + 2) i = T i ∧ M (x + 3) i = R i ∧ M (x + 4) i = B i
def BxN (M : rhM) (p n : Int) (L T R B : Int → Int) : Prop := ∀ i, 0 ≤ i → i < n → M 27 (20 * p + i) = L i ∧ M 28 (20 * p + i) = T i ∧ M 29 (20 * p + i) = R i ∧ M 30 (20 * p + i) = B i
theorem mn_lt {a b c : Int} : rh_if (b < a) b a < c ↔ (a < c ∨ b < c) := by rw [rh_ifd]; split <;> omega
theorem lt_mx {a b c : Int} : c < rh_if (a < b) b a ↔ (c < a ∨ c < b) := by rw [rh_ifd]; split <;> omega
variable {L T R B : Int → Int} {n : Int}
theorem c_isBetween (hh : rh_hs wh) {x k i j : Int} (hx : rh_bl wh 1 x 0) (M : rhM) (hn : n ≤ 20) (hB : BxH M x n L T R B) (hb : Bxb L T R B n) (hk : 0 ≤ k ∧ k < n) (hi : 0 ≤ i ∧ i < n) (hj : 0 ≤ j ∧ j < n) :
    eC wh YX30_isBetween 1 [(2, x), (0, k), (0, i), (0, j)] M (rh_if (btw L T R B k i j) 1 0) M := by
  refine eC.of1 (rC1.of (by decide) (LE0 rfl) ?_)
  refine rh1.of (rX30_isBetween_0 hh _ _ _ _ _ hx ?_)
  obtain ⟨k1, k2, k3, k4⟩ := hB k hk.1 hk.2
  obtain ⟨i1, i2, i3, i4⟩ := hB i hi.1 hi.2
  obtain ⟨j1, j2, j3, j4⟩ := hB j hj.1 hj.2
  obtain ⟨-, k6⟩ := hb k hk.1 hk.2
  obtain ⟨-, i6⟩ := hb i hi.1 hi.2
  obtain ⟨-, j6⟩ := hb j hj.1 hj.2
  rw [k1, k2, k3, k4, i1, i2, i3, i4, j1, j2, j3, j4]
  replace hk : 0 ≤ k ∧ k < 20 := ⟨by omega, by omega⟩
  replace hi : 0 ≤ i ∧ i < 20 := ⟨by omega, by omega⟩
  replace hj : 0 ≤ j ∧ j < 20 := ⟨by omega, by omega⟩
  have ri1 : rI (B i - T i) := ⟨by omega, by omega⟩
  have ri2 : 0 ≤ B i - T i ∧ (0 : Int) < 2 := ⟨by omega, by omega⟩
  have ri3 : rI (T i + (B i - T i) / 2) := ⟨by omega, by omega⟩
  have rj1 : rI (B j - T j) := ⟨by omega, by omega⟩
  have rj2 : 0 ≤ B j - T j ∧ (0 : Int) < 2 := ⟨by omega, by omega⟩
  have rj3 : rI (T j + (B j - T j) / 2) := ⟨by omega, by omega⟩
  have rk1 : rI (B k - T k) := ⟨by omega, by omega⟩
  have rk2 : 0 ≤ B k - T k ∧ (0 : Int) < 2 := ⟨by omega, by omega⟩
  have rk3 : rI (T k + (B k - T k) / 2) := ⟨by omega, by omega⟩
  refine ⟨hi, hi, hi, ri1, ri2, ri3, hj, hj, hj, rj1, rj2, rj3, hk, hk, hk, rk1, rk2, rk3, fun _ => hk, fun _ => hk, fun _ => hk, fun _ => rk1, fun _ => rk2, fun _ => rk3, fun _ => hi, fun _ => hi, fun _ => hi, fun _ => ri1, fun _ => ri2, fun _ => ri3, fun _ => hj, fun _ => hj, fun _ => hj, fun _ => rj1, fun _ => rj2, fun _ => rj3, fun v ev => ⟨fun _ _ _ => hk, fun _ _ _ => hi, fun _ _ _ _ => hi, fun _ _ _ _ => hk, fun _ _ _ _ => hk, fun _ _ _ _ => hj, fun _ _ _ _ _ => hj, fun _ _ _ _ _ => hk, ?_, rfl⟩⟩
  refine rh_if_cg ?_
  rw [ev, if1_ne, mn_lt, lt_mx]
  exact ⟨fun z => ⟨z.1, z.2.1, z.2.2.1.1, z.2.2.1.2, z.2.2.2⟩, fun z => ⟨z.1, z.2.1, ⟨z.2.2.1, z.2.2.2.1⟩, z.2.2.2.2⟩⟩
theorem c_goesBeforeH (hh : rh_hs wh) {x i j : Int} (hx : rh_bl wh 1 x 0) (M : rhM) (hN : M x 1 = n) (hn : n ≤ 20) (hB : BxH M x n L T R B) (hb : Bxb L T R B n) (hi : 0 ≤ i ∧ i < n) (hj : 0 ≤ j ∧ j < n) :
    eC wh YX30_goesBefore 2 [(2, x), (0, i), (0, j)] M (rh_if (gob L T R B n i j) 1 0) M := by
  refine eC.of1 (rC1.of (by decide) (LE0 rfl) ?_)
  refine rh1.of (rX30_goesBefore_0 hh _ _ _ _ hx ?_)
  obtain ⟨i1, i2, i3, i4⟩ := hB i hi.1 hi.2
  obtain ⟨j1, j2, j3, j4⟩ := hB j hj.1 hj.2
  rw [i1, i2, i3, i4, j1, j2, j3, j4]
  have hi' : 0 ≤ i ∧ i < 20 := ⟨by omega, by omega⟩
  have hj' : 0 ≤ j ∧ j < 20 := ⟨by omega, by omega⟩
  refine ⟨hi', hj', fun _ => hj', fun _ => hi', fun c => ⟨hi', hj', rh_if_cg ⟨fun z => .inl ⟨c, z⟩, fun z => ?_⟩, rfl⟩, fun c => ⟨hi', hj', fun _ => hi', fun _ => hj', fun _ _ => hj', fun _ _ => hi', fun v ev => ?_⟩⟩
  · rcases z with z | z
    · exact z.2
    · exact absurd z.1 (by have := c.2; omega)
  · have key : ∀ (vq : Nat) (k : Int) (v : Int), (n - k).toNat = vq → (0 ≤ k) → (k ≤ n) → (v = rh_if (R i ≤ L j ∧ (T i < B j ∧ T j < B i) ∧ ∀ t, 0 ≤ t → t < k → ¬ btw L T R B t i j) 1 0) → rh1 wh YX30_goesBefore 2 84 [(0, 2, x), (1, 0, i), (2, 0, j), (3, 0, v), (4, 0, k)] [] M (fun r M' => r = rh_if (gob L T R B n i j) 1 0 ∧ M' = M) := by
      intro vq
      induction vq using Nat.strongRecOn with
      | ind vq ih =>
        intro k v hvq k0 k1 hv
        refine rh1.of (rX30_goesBefore_84 hh _ _ _ _ _ _ hx ?_)
        rw [hN]
        refine ⟨fun z => ?_, fun z => ⟨by rw [hv]; exact if1_b, ?_, rfl⟩⟩
        · refine rh1.s (vX30_goesBefore_102 hx (c_isBetween hh hx M hn hB hb ⟨k0, z.1⟩ hi hj) (LE0 rfl)) ?_
          refine rh1.of (rX30_goesBefore_105 hh _ _ _ _ _ _ hx ?_)
          intro v2 e2
          refine ⟨⟨by omega, by omega⟩, ih _ (by omega) (k + 1) v2 rfl (by omega) (by omega) ?_⟩
          rw [e2]
          refine rh_if_cg ?_
          rw [if1_0]
          have h0 := z.2
          rw [hv, if1_ne] at h0
          refine ⟨fun y => ⟨h0.1, h0.2.1, fun t t0 t1 => ?_⟩, fun y => y.2.2 k k0 (by omega)⟩
          by_cases e : t = k
          · rw [e]; exact y
          · exact h0.2.2 t t0 (by omega)
        · rw [hv]
          refine rh_if_cg ⟨fun y => .inr ⟨y.1, y.2.1, ?_⟩, fun y => ?_⟩
          · by_cases e : k < n
            · exact absurd (⟨e, by rw [hv]; exact if1_ne.mpr y⟩) z
            · have : k = n := (by omega)
              rw [← this]; exact y.2.2
          · rcases y with y | y
            · exact absurd y.1 c
            · exact ⟨y.1, y.2.1, fun t t0 t1 => y.2.2 t t0 (by omega)⟩
    refine key _ 0 v rfl (by omega) (by omega) ?_
    rw [ev]
    exact rh_if_cg ⟨fun y => ⟨y.1, y.2, fun t _ _ => by omega⟩, fun y => ⟨y.1, y.2.1⟩⟩
theorem c_isFree (hh : rh_hs wh) {x j : Int} (hx : rh_bl wh 1 x 0) (M : rhM) (hN : M x 1 = n) (hn : n ≤ 20) (hB : BxH M x n L T R B) (hb : Bxb L T R B n) (hj : 0 ≤ j ∧ j < n) :
    eC wh YX30_isFree 3 [(2, x), (0, j)] M (rh_if (fre L T R B n (fun i => M (x + 8) i = 0) j) 1 0) M := by
  refine eC.of1 (rC1.of (by decide) (LE0 rfl) ?_)
  refine rh1.of (rX30_isFree_0 hh _ _ _ hx ?_)
  have key : ∀ (vq : Nat) (k : Int), (n - k).toNat = vq → (0 ≤ k) → (k ≤ n) → (Hid (∀ i, 0 ≤ i → i < k → i ≠ j → M (x + 8) i = 0 → ¬ gob L T R B n i j)) → rh1 wh YX30_isFree 3 2 [(0, 2, x), (1, 0, j), (2, 0, k)] [] M (fun r M' => r = rh_if (fre L T R B n (fun i => M (x + 8) i = 0) j) 1 0 ∧ M' = M) := by
    intro vq
    induction vq using Nat.strongRecOn with
    | ind vq ih =>
      intro k hvq k0 k1 hv
      refine rh1.of (rX30_isFree_2 hh _ _ _ _ hx ?_)
      rw [hN]
      refine ⟨fun z => ⟨fun _ => ⟨by omega, by omega⟩, fun y => ?_, fun y => ⟨⟨by omega, by omega⟩, ih _ (by omega) (k + 1) rfl (by omega) (by omega) (fun i i0 i1 a b => ?_)⟩⟩, fun z => ⟨?_, rfl⟩⟩
      · refine rh1.s (vX30_isFree_27 hx (c_goesBeforeH hh hx M hN hn hB hb ⟨k0, z⟩ hj) (LE0 rfl)) ?_
        refine rh1.of (rX30_isFree_30 hh _ _ _ _ _ hx ?_)
        rw [if1_ne]
        refine ⟨fun g => ⟨?_, rfl⟩, fun g => ⟨⟨by omega, by omega⟩, ih _ (by omega) (k + 1) rfl (by omega) (by omega) (fun i i0 i1 a b => ?_)⟩⟩
        · rw [rh_if_f (fun f : fre L T R B n (fun i => M (x + 8) i = 0) j => f k k0 z y.1 y.2 g)]
        · by_cases e : i = k
          · rw [e]; exact g
          · exact hv.out i i0 (by omega) a b
      · by_cases e : i = k
        · exact absurd ⟨by rw [← e]; exact a, by rw [← e]; exact b⟩ y
        · exact hv.out i i0 (by omega) a b
      · rw [rh_if_t (show fre L T R B n (fun i => M (x + 8) i = 0) j from fun i i0 i1 => hv.out i i0 (by omega))]
  exact key _ 0 rfl (by omega) (by omega) (fun i i0 i1 => by omega)
theorem c_nextBlock (hh : rh_hs wh) {x fr : Int} (hx : rh_bl wh 1 x 0) (M : rhM) (hN : M x 1 = n) (hn0 : 0 ≤ n) (hn : n ≤ 20) (hB : BxH M x n L T R B) (hb : Bxb L T R B n) :
    eC wh YX30_nextBlock 4 [(2, x), (0, fr)] M (nxt (fun i => M (x + 8) i = 0 ∧ (fr = 0 ∨ fre L T R B n (fun i => M (x + 8) i = 0) i)) T L n.toNat) M := by
  refine eC.of1 (rC1.of (by decide) (LE0 rfl) ?_)
  refine rh1.of (rX30_nextBlock_0 hh _ _ _ hx ?_)
  generalize hal : (fun i => M (x + 8) i = 0 ∧ (fr = 0 ∨ fre L T R B n (fun i => M (x + 8) i = 0) i)) = al
  have ha : ∀ i, al i = (M (x + 8) i = 0 ∧ (fr = 0 ∨ fre L T R B n (fun i => M (x + 8) i = 0) i)) := fun i => by rw [← hal]
  clear hal
  replace ha := Hid.mk ha
  have step : ∀ (k : Nat) (b v w : Int), (k : Int) < n → b = nxt al T L k → al k → (b ≠ -1 ∧ T b ≤ T k → v = rh_if (T k = T b ∧ L k < L b) 1 0) → (¬ (b ≠ -1 ∧ T b ≤ T k) → v = 1) → w = rh_if (v ≠ 0) (k : Int) b → w = nxt al T L (k + 1) := by
    intro k b v w hk eb hal h1 h2 ew
    simp only [nxt]
    rw [← eb, ew]
    refine rh_if_cg ?_
    by_cases c : b ≠ -1 ∧ T b ≤ T k
    · rw [h1 c, if1_ne]
      exact ⟨fun z => ⟨hal, .inr (.inr z)⟩, fun z => by rcases z.2 with z | z | z; exact absurd z c.1; exact absurd z (by have := c.2; omega); exact z⟩
    · rw [h2 c]
      refine ⟨fun _ => ⟨hal, ?_⟩, fun _ => by decide⟩
      by_cases d : b = -1
      · exact .inl d
      · exact .inr (.inl (by by_cases g : T b ≤ T k; exact absurd ⟨d, g⟩ c; omega))
  replace step := Hid.mk step
  have key : ∀ (vq : Nat) (k : Nat) (b : Int), (n - k).toNat = vq → ((k : Int) ≤ n) → (b = nxt al T L k) → rh1 wh YX30_nextBlock 4 4 [(0, 2, x), (1, 0, fr), (2, 0, b), (3, 0, (k : Int))] [] M (fun r M' => r = nxt al T L n.toNat ∧ M' = M) := by
    intro vq
    induction vq using Nat.strongRecOn with
    | ind vq ih =>
      intro k b hvq k1 hb1
      have eK : ((k + 1 : Nat) : Int) = (k : Int) + 1 := (by omega)
      have bb : b ≠ -1 → 0 ≤ b ∧ b < k := fun e => by
        rcases nxt_b (al := al) (T := T) (L := L) k with q | q
        · exact absurd (hb1.trans q) e
        · rw [hb1]; exact ⟨q.1, q.2.1⟩
      replace bb := Hid.mk bb
      refine rh1.of (rX30_nextBlock_4 hh _ _ _ _ _ hx ?_)
      rw [hN]
      have rest : (k : Int) < n → al k → ∀ v w : Int, (b ≠ -1 ∧ T b ≤ T k → v = rh_if (T k = T b ∧ L k < L b) 1 0) → (¬ (b ≠ -1 ∧ T b ≤ T k) → v = 1) → w = rh_if (v ≠ 0) (k : Int) b → rh1 wh YX30_nextBlock 4 4 [(0, 2, x), (1, 0, fr), (2, 0, w), (3, 0, (k : Int) + 1)] [] M (fun r M' => r = nxt al T L n.toNat ∧ M' = M) := by
        intro c1 hal v w h1 h2 h3
        rw [← eK]
        exact ih _ (by omega) (k + 1) w rfl (by omega) (step.out k b v w c1 hb1 hal h1 h2 h3)
      replace rest := Hid.mk rest
      have skip : (k : Int) < n → ¬ al k → rh1 wh YX30_nextBlock 4 4 [(0, 2, x), (1, 0, fr), (2, 0, b), (3, 0, (k : Int) + 1)] [] M (fun r M' => r = nxt al T L n.toNat ∧ M' = M) := by
        intro c1 hal
        rw [← eK]
        exact ih _ (by omega) (k + 1) b rfl (by omega) (by simp only [nxt]; rw [rh_if_f (fun z => hal z.1)]; exact hb1)
      replace skip := Hid.mk skip
      refine ⟨fun c => ⟨⟨by omega, by omega⟩, fun d => ⟨fun e => ?_, fun e => ?_⟩, fun d => ⟨⟨by omega, by omega⟩, skip.out c (fun z => ?_)⟩⟩, fun c => ⟨by rw [hb1, show n.toNat = k by omega], rfl⟩⟩
      · refine rh1.s (vX30_nextBlock_27 hx (c_isFree hh hx M hN hn hB hb ⟨(by omega), c⟩) (LE0 rfl)) ?_
        refine rh1.of (rX30_nextBlock_30 hh _ _ _ _ _ _ hx ?_)
        rw [if1_ne]
        obtain ⟨k1, k2, k3, k4⟩ := hB k (by omega) c
        rw [k1, k2]
        refine ⟨fun g => ?_, fun g => ⟨⟨by omega, by omega⟩, skip.out c (fun z => ?_)⟩⟩
        · have hal : al k := by rw [ha.out]; exact ⟨d, .inr g⟩
          refine ⟨fun _ => ⟨by omega, by omega⟩, fun y => ?_, fun y => ?_, fun y => ?_⟩
          · have := bb.out y; exact ⟨by omega, by omega⟩
          · have y2 := bb.out y.1
            obtain ⟨b1, b2, b3, b4⟩ := hB b y2.1 (by omega)
            rw [b1, b2]
            refine ⟨⟨by omega, by omega⟩, ⟨by omega, by omega⟩, fun _ => ⟨by omega, by omega⟩, fun _ => ⟨by omega, by omega⟩, fun v ev w ew => ⟨⟨by omega, by omega⟩, rest.out c hal v w (fun _ => ev) (fun q => absurd ⟨y.1, by rw [← b2]; exact y.2⟩ q) ew⟩⟩
          · refine fun v ev w ew => ⟨⟨by omega, by omega⟩, rest.out c hal v w (fun q => absurd ?_ y) (fun _ => ev) ew⟩
            have y2 := bb.out q.1
            rw [(hB b y2.1 (by omega)).2.1]
            exact q
        · rw [ha.out] at z
          rcases z.2 with z2 | z2
          · exact e z2
          · exact g z2
      · have hal : al k := by rw [ha.out]; exact ⟨d, .inl (by omega)⟩
        obtain ⟨k1, k2, k3, k4⟩ := hB k (by omega) c
        rw [k1, k2]
        refine ⟨fun _ => ⟨by omega, by omega⟩, fun y => ?_, fun y => ?_, fun y => ?_⟩
        · have := bb.out y; exact ⟨by omega, by omega⟩
        · have y2 := bb.out y.1
          obtain ⟨b1, b2, b3, b4⟩ := hB b y2.1 (by omega)
          rw [b1, b2]
          refine ⟨⟨by omega, by omega⟩, ⟨by omega, by omega⟩, fun _ => ⟨by omega, by omega⟩, fun _ => ⟨by omega, by omega⟩, fun v ev w ew => ⟨⟨by omega, by omega⟩, rest.out c hal v w (fun _ => ev) (fun q => absurd ⟨y.1, by rw [← b2]; exact y.2⟩ q) ew⟩⟩
        · refine fun v ev w ew => ⟨⟨by omega, by omega⟩, rest.out c hal v w (fun q => absurd ?_ y) (fun _ => ev) ew⟩
          have y2 := bb.out q.1
          rw [(hB b y2.1 (by omega)).2.1]
          exact q
      · rw [ha.out] at z
        exact d z.1
  exact key _ 0 (-1) rfl (by omega) rfl
theorem c_goesBeforeM (hm : rh_ms wm) {p i j : Int} (hp : 0 ≤ p ∧ p < 8) (M : rhM) (hN : M 24 p = n) (hn : n ≤ 20) (hB : BxN M p n L T R B) (hb : Bxb L T R B n) (hi : 0 ≤ i ∧ i < n) (hj : 0 ≤ j ∧ j < n) :
    eC wm YX32_goesBefore 1 [(2, 0), (0, p), (0, 20 * p + i), (0, 20 * p + j)] M (rh_if (gob L T R B n i j) 1 0) M := by
  refine eC.of1 (rC1.of (by decide) (LE0 rfl) ?_)
  refine rh1.of (rX32_goesBefore_0 hm _ _ _ _ ?_)
  obtain ⟨i1, i2, i3, i4⟩ := hB i hi.1 hi.2
  obtain ⟨j1, j2, j3, j4⟩ := hB j hj.1 hj.2
  obtain ⟨-, i6⟩ := hb i hi.1 hi.2
  obtain ⟨-, j6⟩ := hb j hj.1 hj.2
  rw [i1, i2, i3, i4, j1, j2, j3, j4]
  have hi' : 0 ≤ 20 * p + i ∧ 20 * p + i < 160 := ⟨by omega, by omega⟩
  have hj' : 0 ≤ 20 * p + j ∧ 20 * p + j < 160 := ⟨by omega, by omega⟩
  have ri1 : rI (B i - T i) := ⟨by omega, by omega⟩
  have ri2 : 0 ≤ B i - T i ∧ (0 : Int) < 2 := ⟨by omega, by omega⟩
  have ri3 : rI (T i + (B i - T i) / 2) := ⟨by omega, by omega⟩
  have rj1 : rI (B j - T j) := ⟨by omega, by omega⟩
  have rj2 : 0 ≤ B j - T j ∧ (0 : Int) < 2 := ⟨by omega, by omega⟩
  have rj3 : rI (T j + (B j - T j) / 2) := ⟨by omega, by omega⟩
  refine ⟨hi', hj', fun _ => hj', fun _ => hi', fun _ => hi', fun _ => hj', fun c => ⟨by rw [rh_if_t (show gob L T R B n i j from .inl c)], rfl⟩, fun c => ⟨hi', hj', fun _ => hi', fun _ => hj', fun _ _ => hj', fun _ _ => hi', fun d => ⟨?_, rfl⟩, fun d => ⟨hi', hi', hi', ri1, ri2, ri3, hj', hj', hj', rj1, rj2, rj3, fun u eu => ⟨hi', hi', hi', ri1, ri2, ri3, hj', hj', hj', rj1, rj2, rj3, fun v ev => ⟨⟨by omega, by omega⟩, ?_⟩⟩⟩⟩⟩
  · rw [rh_if_f]
    intro z
    rcases z with z | z
    · exact c z
    · rcases d with d | d
      · exact absurd z.1 (by omega)
      · exact d z.2.1
  · have d1 : R i ≤ L j := by by_cases q : R i ≤ L j; exact q; exact absurd (Or.inl (by omega)) d
    have d2 : T i < B j ∧ T j < B i := by by_cases q : T i < B j ∧ T j < B i; exact q; exact absurd (Or.inr q) d
    clear d
    replace c := Hid.mk c
    have key : ∀ (vq : Nat) (k : Int), (n - k).toNat = vq → (0 ≤ k) → (k ≤ n) → (Hid (∀ t, 0 ≤ t → t < k → ¬ btw L T R B t i j)) → rh1 wm YX32_goesBefore 1 88 [(0, 2, 0), (1, 0, p), (2, 0, 20 * p + i), (3, 0, 20 * p + j), (4, 0, u), (5, 0, v), (6, 0, 20 * p + k)] [] M (fun r M' => r = rh_if (gob L T R B n i j) 1 0 ∧ M' = M) := by
      intro vq
      induction vq using Nat.strongRecOn with
      | ind vq ih =>
        intro k hvq k0 k1 hv
        refine rh1.of (rX32_goesBefore_88 hm _ _ _ _ _ _ _ ?_)
        rw [hN]
        refine ⟨hp, ⟨by omega, by omega⟩, fun z => ?_, fun z => ⟨by rw [rh_if_t (show gob L T R B n i j from .inr ⟨d1, d2, fun t t0 t1 => hv.out t t0 (by omega)⟩)], rfl⟩⟩
        obtain ⟨q1, q2, q3, q4⟩ := hB k k0 (by omega)
        obtain ⟨-, q6⟩ := hb k k0 (by omega)
        rw [i1, i3, j1, j3, q1, q2, q3, q4]
        have hk' : 0 ≤ 20 * p + k ∧ 20 * p + k < 160 := ⟨by omega, by omega⟩
        have rk1 : rI (B k - T k) := ⟨by omega, by omega⟩
        have rk2 : 0 ≤ B k - T k ∧ (0 : Int) < 2 := ⟨by omega, by omega⟩
        have rk3 : rI (T k + (B k - T k) / 2) := ⟨by omega, by omega⟩
        have eqv : ((20 * p + k ≠ 20 * p + i) ∧ (20 * p + k ≠ 20 * p + j) ∧ (L k < R i ∧ L i < R k) ∧ (L k < R j ∧ L j < R k) ∧ (u < T k + (B k - T k) / 2) ∧ (T k + (B k - T k) / 2 < v)) ↔ btw L T R B k i j := by
          rw [eu, ev, show ∀ a b c : Int, (rh_if (a < b) a b < c) = (b < c ∨ a < c) from fun a b c => propext mn_lt, show ∀ a b c : Int, (c < rh_if (b < a) a b) = (c < b ∨ c < a) from fun a b c => propext lt_mx]
          unfold btw mid shc
          constructor
          · intro y
            exact ⟨fun e => y.1 (by rw [e]), fun e => y.2.1 (by rw [e]), y.2.2.2.2.1.symm, y.2.2.2.2.2.symm, y.2.2.1, y.2.2.2.1⟩
          · intro y
            exact ⟨fun e => y.1 (by omega), fun e => y.2.1 (by omega), y.2.2.2.2.1, y.2.2.2.2.2, y.2.2.1.symm, y.2.2.2.1.symm⟩
        refine ⟨fun _ _ => hk', fun _ _ => hi', fun _ _ _ => hi', fun _ _ _ => hk', fun _ _ _ => hk', fun _ _ _ => hj', fun _ _ _ _ => hj', fun _ _ _ _ => hk', fun _ _ _ _ => hk', fun _ _ _ _ => hk', fun _ _ _ _ => hk', fun _ _ _ _ => rk1, fun _ _ _ _ => rk2, fun _ _ _ _ => rk3, fun _ _ _ _ _ => hk', fun _ _ _ _ _ => hk', fun _ _ _ _ _ => hk', fun _ _ _ _ _ => rk1, fun _ _ _ _ _ => rk2, fun _ _ _ _ _ => rk3, fun y => ⟨?_, rfl⟩, fun y => ⟨⟨by omega, by omega⟩, ?_⟩⟩
        · rw [rh_if_f]
          intro g
          rcases g with g | g
          · exact c.out g
          · exact g.2.2 k k0 (by omega) (eqv.mp y)
        · rw [show 20 * p + k + 1 = 20 * p + (k + 1) by omega]
          refine ih _ (by omega) (k + 1) rfl (by omega) (by omega) (fun t t0 t1 => ?_)
          by_cases e : t = k
          · rw [e]; exact fun g => y (eqv.mpr g)
          · exact hv.out t t0 (by omega)
    have h0 := key _ 0 rfl (by omega) (by omega) (fun t t0 t1 => by omega)
    rwa [Int.add_zero] at h0
/-- isEarlier: of block i against a later one j -/
theorem c_isEarlier (hm : rh_ms wm) {i j : Int} (M : rhM) (hi : 0 ≤ i ∧ i < 160) (hj : 0 ≤ j ∧ j < 160) :
    eC wm YX32_isEarlier 0 [(2, 0), (0, i), (0, j)] M (rh_if (M 28 i < M 28 j ∨ (M 28 i = M 28 j ∧ (M 27 i < M 27 j ∨ (M 27 i = M 27 j ∧ i < j)))) 1 0) M := by
  refine eC.of1 (rC1.of (by decide) (LE0 rfl) ?_)
  refine rh1.of (rX32_isEarlier_0 hm _ _ _ ?_)
  refine ⟨hi, hj, fun a => ⟨hi, hj, fun b => ⟨hi, hj, fun c => ⟨hi, hj, rh_if_cg ?_, rfl⟩, fun c => ⟨?_, rfl⟩⟩, fun b => ⟨?_, rfl⟩⟩, fun a => ⟨?_, rfl⟩⟩
  · omega
  · rw [rh_if_t (by omega)]
  · rw [rh_if_f (by omega)]
  · rw [rh_if_t (by omega)]
end Order
