/-! ===== LAYER 2: isNumber, readNumber ===== -/
section NumH
variable {wh wm : rhW}
theorem p10 {k : Nat} (h : k ≤ 7) : (10 : Int) ^ k ≤ 10000000 ∧ (k ≤ 6 → (10 : Int) ^ k ≤ 1000000) ∧ (k ≤ 3 → (10 : Int) ^ k ≤ 1000) := by
  have c : k = 0 ∨ k = 1 ∨ k = 2 ∨ k = 3 ∨ k = 4 ∨ k = 5 ∨ k = 6 ∨ k = 7 := by omega
  rcases c with h | h | h | h | h | h | h | h <;> (rw [h]; decide)
/-- the number with some places behind the point -/
def dvk (t : Int → Int) (V b : Int) : Nat → Int
  | 0 => V
  | k + 1 => 10 * dvk t V b k + t (b + k) - 48
def tnp (v : Int) : Nat → Int
  | 0 => v
  | u + 1 => tnp (10 * v) u
theorem tnp_e {t : Int → Int} {V b : Int} {k : Nat} (hk : k ≤ 3) : tnp (dvk t V b k) (3 - k) = 1000 * V + (if k = 0 then 0 else pw3 k * vl t b k) := by
  have c : k = 0 ∨ k = 1 ∨ k = 2 ∨ k = 3 := by omega
  rcases c with h | h | h | h
  · subst h; simp only [tnp, dvk]; rw [if_pos trivial]; omega
  · subst h; show 10 * (10 * (10 * V + t (b + ((0 : Nat) : Int)) - 48)) = 1000 * V + (if 1 = 0 then 0 else pw3 1 * (10 * 0 + t (b + ((0 : Nat) : Int)) - 48)); rw [if_neg (by decide)]; unfold pw3; rw [if_pos rfl]; omega
  · subst h; show 10 * (10 * (10 * V + t (b + ((0 : Nat) : Int)) - 48) + t (b + ((1 : Nat) : Int)) - 48) = 1000 * V + (if 2 = 0 then 0 else pw3 2 * (10 * (10 * 0 + t (b + ((0 : Nat) : Int)) - 48) + t (b + ((1 : Nat) : Int)) - 48)); rw [if_neg (by decide)]; unfold pw3; rw [if_neg (by decide), if_pos rfl]; omega
  · subst h; show 10 * (10 * (10 * V + t (b + ((0 : Nat) : Int)) - 48) + t (b + ((1 : Nat) : Int)) - 48) + t (b + ((2 : Nat) : Int)) - 48 = 1000 * V + (if 3 = 0 then 0 else pw3 3 * (10 * (10 * (10 * 0 + t (b + ((0 : Nat) : Int)) - 48) + t (b + ((1 : Nat) : Int)) - 48) + t (b + ((2 : Nat) : Int)) - 48)); rw [if_neg (by decide)]; unfold pw3; rw [if_neg (by decide), if_neg (by decide)]; omega
theorem dvk_b {t : Int → Int} {V b : Int} (hV : 0 ≤ V ∧ V < 1000000) : ∀ k : Nat, k ≤ 3 → (∀ i, b ≤ i → i < b + k → Dg (t i)) → 0 ≤ dvk t V b k ∧ (k = 0 → dvk t V b k < 1000000) ∧ (k = 1 → dvk t V b k < 10000000) ∧ (k = 2 → dvk t V b k < 100000000) ∧ (k = 3 → dvk t V b k < 1000000000)
  | 0, _, _ => by show 0 ≤ V ∧ (0 = 0 → V < 1000000) ∧ _; exact ⟨hV.1, fun _ => hV.2, fun z => by omega, fun z => by omega, fun z => by omega⟩
  | k + 1, hk, h => by
    have i := dvk_b hV k (by omega) (fun i i0 i1 => h i i0 (by omega))
    have d := h (b + k) (by omega) (by omega)
    unfold Dg at d
    show 0 ≤ 10 * dvk t V b k + t (b + k) - 48 ∧ (k + 1 = 0 → _) ∧ (k + 1 = 1 → 10 * dvk t V b k + t (b + k) - 48 < 10000000) ∧ (k + 1 = 2 → 10 * dvk t V b k + t (b + k) - 48 < 100000000) ∧ (k + 1 = 3 → 10 * dvk t V b k + t (b + k) - 48 < 1000000000)
    obtain ⟨i1, i2, i3, i4, i5⟩ := i
    refine ⟨by omega, fun z => by omega, fun z => ?_, fun z => ?_, fun z => ?_⟩
    · have := i2 (by omega); omega
    · have := i3 (by omega); omega
    · have := i4 (by omega); omega
theorem h_n43 (hh : rh_hs wh) {A : rhM} {x a mm m f b : Int} {t : Int → Int} (hx : rh_bl wh 4 x mm) (hG : ∀ k, 0 ≤ k → k < 12 → eC wh YX19_get 0 [(2, x), (0, a), (0, k)] A (t k) A) (hm : m ≤ 12) (hf : 0 ≤ f) (hb : f ≤ b ∧ b ≤ m ∧ b ≤ f + 6) (hd : ∀ i, f ≤ i → i < b → Dg (t i)) : ∀ (u k : Nat), f + k + u = b → eS wh YX27_isNumber 2 43 [(0, 2, 221), (1, 2, x), (2, 0, a), (3, 0, m), (4, 0, f + k), (5, 0, f), (6, 0, vl t f k)] [] A 43 [(0, 2, 221), (1, 2, x), (2, 0, a), (3, 0, m), (4, 0, b), (5, 0, f), (6, 0, vl t f (b - f).toNat)] [] A := by
  intro u
  induction u with
  | zero =>
    intro k hk
    rw [show f + (k : Int) = b by omega, show (b - f).toNat = k by omega]
    exact eS.rf
  | succ u ih =>
    intro k hk
    have v := vl_b (t := t) (a := f) k (fun i i0 i1 => hd i i0 (by omega))
    have p := (p10 (k := k) (by omega)).2.1 (by omega)
    have d := hd (f + k) (by omega) (by omega)
    unfold Dg at d
    refine eS.of (fun P HP => ?_)
    refine rh1.of (rX27_isNumber_43 hh _ _ _ _ _ _ _ _ hx ?_)
    refine ⟨fun _ => ⟨by omega, by omega⟩, fun _ => rh1.s (vX27_isNumber_63 hx (hG (f + k) (by omega) (by omega)) (LE0 rfl)) ?_, fun z => absurd ⟨by omega, by omega⟩ z⟩
    refine rh1.of (rX27_isNumber_66 hh _ _ _ _ _ _ _ _ _ hx ?_)
    refine ⟨fun _ => rh1.s (eS.fx 3 (x := 10 * vl t f k) rfl ⟨by omega, by omega⟩ rfl) (rh1.s (vX27_isNumber_81 hx (hG (f + k) (by omega) (by omega)) (LE0 rfl)) ?_), fun z => absurd d z⟩
    refine rh1.of (rX27_isNumber_84 hh _ _ _ _ _ _ _ _ _ hx ?_)
    refine ⟨⟨by omega, by omega⟩, ⟨by omega, by omega⟩, ?_⟩
    have nx := ih (k + 1) (by omega)
    rw [show f + ((k + 1 : Nat) : Int) = f + k + 1 by omega] at nx
    exact rh1.s nx HP
/-- behind the digits -/
theorem h_n43x (hh : rh_hs wh) {A : rhM} {x a mm m f b v : Int} {t : Int → Int} (hx : rh_bl wh 4 x mm) (hG : ∀ k, 0 ≤ k → k < 12 → eC wh YX19_get 0 [(2, x), (0, a), (0, k)] A (t k) A) (hm : m ≤ 12) (hf : 0 ≤ f) (hb : f ≤ b ∧ b ≤ m) (he : b = m ∨ b = f + 6 ∨ ¬ Dg (t b)) : (∀ P : Int → rhM → Prop, b = f → P 0 A → rh1 wh YX27_isNumber 2 43 [(0, 2, 221), (1, 2, x), (2, 0, a), (3, 0, m), (4, 0, b), (5, 0, f), (6, 0, v)] [] A P) ∧ (f < b → b < m → eS wh YX27_isNumber 2 43 [(0, 2, 221), (1, 2, x), (2, 0, a), (3, 0, m), (4, 0, b), (5, 0, f), (6, 0, v)] [] A 121 [(0, 2, 221), (1, 2, x), (2, 0, a), (3, 0, m), (4, 0, b), (6, 0, v), (7, 0, 0)] [(0, t b)] A) ∧ (f < b → b = m → eS wh YX27_isNumber 2 43 [(0, 2, 221), (1, 2, x), (2, 0, a), (3, 0, m), (4, 0, b), (5, 0, f), (6, 0, v)] [] A 204 [(0, 2, 221), (1, 2, x), (2, 0, a), (3, 0, m), (4, 0, b), (6, 0, v), (8, 0, 0)] [] A) := by
  have ent : ∀ P : Int → rhM → Prop, (b = f → P 0 A) → (f < b → b < m → rh1 wh YX27_isNumber 2 118 [(0, 2, 221), (1, 2, x), (2, 0, a), (3, 0, m), (4, 0, b), (6, 0, v), (7, 0, 0)] [(0, b), (0, a), (2, x)] A P) → (f < b → b = m → rh1 wh YX27_isNumber 2 204 [(0, 2, 221), (1, 2, x), (2, 0, a), (3, 0, m), (4, 0, b), (6, 0, v), (8, 0, 0)] [] A P) → rh1 wh YX27_isNumber 2 43 [(0, 2, 221), (1, 2, x), (2, 0, a), (3, 0, m), (4, 0, b), (5, 0, f), (6, 0, v)] [] A P := fun P h1 h2 h3 => by
    refine rh1.of (rX27_isNumber_43 hh _ _ _ _ _ _ _ _ hx ?_)
    refine ⟨fun _ => ⟨by omega, by omega⟩, fun c => ?_, fun c => ?_⟩
    · have nd : ¬ Dg (t b) := by rcases he with he | he | he; exact absurd he (by omega); exact absurd he (by omega); exact he
      refine rh1.s (vX27_isNumber_63 hx (hG b (by omega) (by omega)) (LE0 rfl)) ?_
      refine rh1.of (rX27_isNumber_66 hh _ _ _ _ _ _ _ _ _ hx ?_)
      refine ⟨fun z => absurd z nd, fun _ => ⟨fun y => h1 y, fun y => ⟨fun z => h2 (by omega) z, fun z => absurd c.1 z⟩⟩⟩
    · exact ⟨fun y => h1 y, fun y => ⟨fun z => h2 (by omega) z, fun z => h3 (by omega) (by omega)⟩⟩
  refine ⟨fun P hb0 HP => ent P (fun _ => HP) (fun y => by omega) (fun y => by omega), fun y1 y2 => eS.of (fun P HP => ent P (fun y => by omega) (fun _ _ => rh1.s (vX27_isNumber_118 hx (hG b (by omega) (by omega)) (LE0 rfl)) HP) (fun _ y => by omega)), fun y1 y2 => eS.of (fun P HP => ent P (fun y => by omega) (fun _ y => by omega) (fun _ _ => HP))⟩
theorem h_n141 (hh : rh_hs wh) {A : rhM} {x a mm m b e V : Int} {t : Int → Int} (hx : rh_bl wh 4 x mm) (hG : ∀ k, 0 ≤ k → k < 12 → eC wh YX19_get 0 [(2, x), (0, a), (0, k)] A (t k) A) (hm : m ≤ 12) (hb0 : 0 ≤ b) (hV : 0 ≤ V ∧ V < 1000000) (hb : b ≤ e ∧ e ≤ m ∧ e ≤ b + 3) (hd : ∀ i, b ≤ i → i < e → Dg (t i)) : ∀ (u k : Nat), b + k + u = e → eS wh YX27_isNumber 2 141 [(0, 2, 221), (1, 2, x), (2, 0, a), (3, 0, m), (4, 0, b + k), (6, 0, dvk t V b k), (7, 0, (k : Int))] [] A 141 [(0, 2, 221), (1, 2, x), (2, 0, a), (3, 0, m), (4, 0, e), (6, 0, dvk t V b (e - b).toNat), (7, 0, e - b)] [] A := by
  intro u
  induction u with
  | zero =>
    intro k hk
    rw [show b + (k : Int) = e by omega, show (e - b).toNat = k by omega, show (k : Int) = e - b by omega]
    exact eS.rf
  | succ u ih =>
    intro k hk
    obtain ⟨q1, q2, q3, q4, q5⟩ := dvk_b (t := t) (b := b) hV k (by omega) (fun i i0 i1 => hd i i0 (by omega))
    have d := hd (b + k) (by omega) (by omega)
    unfold Dg at d
    have vb : dvk t V b k < 100000000 := by
      have c : k = 0 ∨ k = 1 ∨ k = 2 := by omega
      rcases c with c | c | c
      · have := q2 c; omega
      · have := q3 c; omega
      · exact q4 c
    clear q2 q3 q4 q5
    refine eS.of (fun P HP => ?_)
    refine rh1.of (rX27_isNumber_141 hh _ _ _ _ _ _ _ _ hx ?_)
    refine ⟨fun _ => rh1.s (vX27_isNumber_157 hx (hG (b + k) (by omega) (by omega)) (LE0 rfl)) ?_, fun z => absurd ⟨by omega, by omega⟩ z⟩
    refine rh1.of (rX27_isNumber_160 hh _ _ _ _ _ _ _ _ _ hx ?_)
    refine ⟨fun _ => rh1.s (eS.fx 3 (x := 10 * dvk t V b k) rfl ⟨by omega, by omega⟩ rfl) (rh1.s (vX27_isNumber_175 hx (hG (b + k) (by omega) (by omega)) (LE0 rfl)) ?_), fun z => absurd d z⟩
    refine rh1.of (rX27_isNumber_178 hh _ _ _ _ _ _ _ _ _ hx ?_)
    refine ⟨⟨by omega, by omega⟩, ⟨by omega, by omega⟩, ⟨by omega, by omega⟩, ?_⟩
    have nx := ih (k + 1) (by omega)
    rw [show b + ((k + 1 : Nat) : Int) = b + k + 1 by omega, show ((k + 1 : Nat) : Int) = (k : Int) + 1 by omega] at nx
    exact rh1.s nx HP
theorem h_n204 (hh : rh_hs wh) {A : rhM} {x a mm m at0 : Int} {t : Int → Int} (hx : rh_bl wh 4 x mm) (hG : ∀ k, 0 ≤ k → k < 12 → eC wh YX19_get 0 [(2, x), (0, a), (0, k)] A (t k) A) : ∀ (u k : Nat) (v : Int), k + u = 3 → 0 ≤ v → (u = 1 → v < 100000000) → (u = 2 → v < 10000000) → (u = 3 → v < 1000000) → ∀ P : Int → rhM → Prop, (rI (sgd t (tnp v u)) → P (rh_if (at0 = m) 1 0) (rh_set A 221 11 (sgd t (tnp v u)))) → (u = 0 → v < 1000000000) → rh1 wh YX27_isNumber 2 204 [(0, 2, 221), (1, 2, x), (2, 0, a), (3, 0, m), (4, 0, at0), (6, 0, v), (8, 0, (k : Int))] [] A P := by
  intro u
  induction u with
  | zero =>
    intro k v hk v0 h1 h2 h3 P HP h0
    have v1 := h0 rfl
    refine rh1.of (rX27_isNumber_204 hh _ _ _ _ _ _ _ _ hx ?_)
    refine ⟨fun z => by omega, fun _ => rh1.s (vX27_isNumber_227 hx (hG 0 (by decide) (by decide)) (LE0 rfl)) ?_⟩
    have r : rI (sgd t v) := by
      unfold sgd
      by_cases y : t 0 = 45
      · rw [rh_if_t y]; exact ⟨by omega, by omega⟩
      · rw [rh_if_f y]; exact ⟨by omega, by omega⟩
    refine rh1.of (rX27_isNumber_230 hh _ _ _ _ _ ?_)
    exact ⟨r, HP r⟩
  | succ u ih =>
    intro k v hk v0 h1 h2 h3 P HP h0
    have c : u = 0 ∨ u = 1 ∨ u = 2 := by omega
    have vb : v < 100000000 := by
      rcases c with c | c | c
      · exact h1 (by omega)
      · have := h2 (by omega); omega
      · have := h3 (by omega); omega
    refine rh1.of (rX27_isNumber_204 hh _ _ _ _ _ _ _ _ hx ?_)
    refine ⟨fun _ => ⟨⟨by omega, by omega⟩, ⟨by omega, by omega⟩, ?_⟩, fun z => by omega⟩
    rw [show (k : Int) + 1 = ((k + 1 : Nat) : Int) by omega]
    refine ih (k + 1) (10 * v) (by omega) (by omega) (fun y => ?_) (fun y => ?_) (fun y => by omega) P HP (fun y => by omega)
    · have := h2 (by omega); omega
    · have := h3 (by omega); omega
theorem c_numH (hh : rh_hs wh) {A : rhM} {x a mm m : Int} {t : Int → Int} (hx : rh_bl wh 4 x mm) (hx2 : 563 ≤ x) (ha : 0 ≤ a ∧ a < mm) (hm : 1 ≤ m ∧ m ≤ 12) (hz : A (x + 2) a = m) (ht : ∀ s, 0 ≤ s → s < m → A (x + 1) (12 * a + s) = t s) : ∃ r A', eC wh YX27_isNumber 2 [(2, 221), (2, x), (0, a)] A r A' ∧ frx (fun c j => c = 221 ∧ j = 11) A A' ∧ ((r = 0 ∧ ∀ y, ¬ Nm t m y) ∨ (r = 1 ∧ Nm t m (A' 221 11))) := by
  -- signs behind the text do not matter
  obtain ⟨s, hs⟩ : ∃ s : Int → Int, s = fun k => A (x + 1) (12 * a + k) := ⟨_, rfl⟩
  have hG : ∀ k, 0 ≤ k → k < 12 → eC wh YX19_get 0 [(2, x), (0, a), (0, k)] A (s k) A := fun k k0 k1 => by rw [hs]; exact c_get hh hx A ⟨by omega, by omega⟩
  have st : ∀ i, 0 ≤ i → i < m → s i = t i := fun i i0 i1 => by rw [hs]; exact ht i i0 i1
  have st0 := st 0 (by decide) (by omega)
  obtain ⟨f, hf⟩ : ∃ f, f = fst t := ⟨_, rfl⟩
  have fb := fst_b t
  rw [← hf] at fb
  have fS : fst s = f := by rw [hf]; unfold fst; rw [st0]
  have drc : ∀ a0 b, 0 ≤ a0 → (Dr s m a0 b ↔ Dr t m a0 b) := fun a0 b h0 => by
    constructor
    · rintro ⟨h1, h2, h3⟩
      refine ⟨h1, fun i i0 i1 => by rw [← st i (by omega) (by omega)]; exact h2 i i0 i1, ?_⟩
      by_cases y : b = m
      · exact .inl y
      · rcases h3 with h3 | h3
        · exact .inl h3
        · exact .inr (by rw [← st b (by omega) (by omega)]; exact h3)
    · rintro ⟨h1, h2, h3⟩
      refine ⟨h1, fun i i0 i1 => by rw [st i (by omega) (by omega)]; exact h2 i i0 i1, ?_⟩
      by_cases y : b = m
      · exact .inl y
      · rcases h3 with h3 | h3
        · exact .inl h3
        · exact .inr (by rw [st b (by omega) (by omega)]; exact h3)
  have vlc : ∀ (a0 : Int) (k : Nat), 0 ≤ a0 → a0 + k ≤ m → vl s a0 k = vl t a0 k := fun a0 k h0 h1 => by
    induction k with
    | zero => rfl
    | succ k ih =>
      show 10 * vl s a0 k + s (a0 + k) - 48 = 10 * vl t a0 k + t (a0 + k) - 48
      rw [ih (by omega), st (a0 + k) (by omega) (by omega)]
  have ent : ∀ P : Int → rhM → Prop, rh1 wh YX27_isNumber 2 43 [(0, 2, 221), (1, 2, x), (2, 0, a), (3, 0, m), (4, 0, f), (5, 0, f), (6, 0, 0)] [] A P → rh1 wh YX27_isNumber 2 0 [(0, 2, 221), (1, 2, x), (2, 0, a)] [] A P := fun P HP => by
    refine rh1.of (rX27_isNumber_0 hh _ _ _ _ hx ?_)
    rw [hz]
    refine ⟨ha, rh1.s (vX27_isNumber_10 hx (hG 0 (by decide) (by decide)) (LE0 rfl)) ?_⟩
    refine rh1.of (rX27_isNumber_13 hh _ _ _ _ _ _ hx ?_)
    refine ⟨fun y => rh1.s (vX27_isNumber_21 hx (hG 0 (by decide) (by decide)) (LE0 rfl)) ?_, fun y v hv => ?_⟩
    · refine rh1.of (rX27_isNumber_24 hh _ _ _ _ _ _ hx ?_)
      intro v hv
      have : v = f := by
        rw [hv, ← fS]; unfold fst
        exact if_cg ⟨fun z => .inr z, fun z => z.elim (fun z => absurd z y) id⟩
      rw [this]; exact HP
    · have : v = f := by
        rw [hv, ← fS]; unfold fst
        rw [rh_if_t (.inl (Classical.not_not.mp y))]
      rw [this]; exact HP
  have nos : (¬ f < m) → (∀ y, ¬ Nm t m y) := fun h y ⟨b, b1, b2, _⟩ => by
    have := b1.1
    rw [← hf] at b2
    omega
  by_cases fm : f < m
  case neg =>
    have em : f = m := by omega
    refine ⟨0, A, eC.of1 (rC1.of (by decide) (LE0 rfl) (ent _ ?_)), frx.rf, .inl ⟨rfl, nos fm⟩⟩
    exact (h_n43x hh (t := s) (b := f) (f := f) (v := 0) hx hG (by omega) (by omega) ⟨by omega, by omega⟩ (.inl em)).1 _ rfl ⟨rfl, rfl⟩
  obtain ⟨b, db⟩ := Dr.ex (t := t) (m := m) (m - f).toNat f (by omega)
  have dbs := (drc f b fb.1).mpr db
  obtain ⟨⟨d1, d2⟩, d3, d4⟩ := id dbs
  -- as far as the house reads
  obtain ⟨c, hc⟩ : ∃ c, c = (if b ≤ f + 6 then b else f + 6) := ⟨_, rfl⟩
  have cb : f ≤ c ∧ c ≤ m ∧ c ≤ f + 6 ∧ c ≤ b := by rw [hc]; split <;> omega
  have cx : c = m ∨ c = f + 6 ∨ ¬ Dg (s c) := by
    rw [hc]
    by_cases y : b ≤ f + 6
    · rw [if_pos y]
      rcases d4 with d4 | d4
      · exact .inl d4
      · exact .inr (.inr d4)
    · rw [if_neg y]; exact .inr (.inl rfl)
  have W := h_n43 hh (t := s) (f := f) (b := c) hx hG (by omega) fb.1 ⟨cb.1, cb.2.1, cb.2.2.1⟩ (fun i i0 i1 => d3 i i0 (by omega)) (c - f).toNat 0 (by omega)
  rw [show f + ((0 : Nat) : Int) = f by omega] at W
  have V0 := vl_b (t := s) (a := f) (c - f).toNat (fun i i0 i1 => d3 i i0 (by omega))
  have Vp := (p10 (k := (c - f).toNat) (by omega)).2.1 (by omega)
  have X := h_n43x hh (t := s) (b := c) (f := f) (v := vl s f (c - f).toNat) hx hG (by omega) fb.1 ⟨cb.1, cb.2.1⟩ cx
  obtain ⟨V, hV⟩ : ∃ V, V = vl s f (c - f).toNat := ⟨_, rfl⟩
  rw [← hV] at W X V0
  have uniq : ∀ b', Dr t m (fst t) b' → b' = b := fun b' h => by rw [← hf] at h; exact h.one db
  by_cases cf : c = f
  · refine ⟨0, A, eC.of1 (rC1.of (by decide) (LE0 rfl) (ent _ (rh1.s W (X.1 _ cf ⟨rfl, rfl⟩)))), frx.rf, .inl ⟨rfl, fun y ⟨b', b1, b2, _⟩ => ?_⟩⟩
    have := uniq b' b1
    rw [← hf] at b2
    rw [hc] at cf
    split at cf <;> omega
  have fc : f < c := by omega
  by_cases cm : c = m
  · -- whole
    have bm : b = m := by omega
    obtain ⟨r1, A1, E1, H1⟩ : ∃ r A1, (∀ P : Int → rhM → Prop, P r A1 → rh1 wh YX27_isNumber 2 204 [(0, 2, 221), (1, 2, x), (2, 0, a), (3, 0, m), (4, 0, c), (6, 0, V), (8, 0, 0)] [] A P) ∧ r = 1 ∧ A1 = rh_set A 221 11 (sgd s (tnp V 3)) := ⟨1, _, fun P HP => h_n204 hh (t := s) hx hG 3 0 V rfl V0.1 (fun y => by omega) (fun y => by omega) (fun _ => by omega) P (fun _ => by rw [rh_if_t cm]; exact HP) (fun y => by omega), rfl, rfl⟩
    refine ⟨r1, A1, eC.of1 (rC1.of (by decide) (LE0 rfl) (ent _ (rh1.s W (rh1.s (X.2.2 fc cm) (E1 _ ⟨rfl, rfl⟩))))), by rw [H1.2]; exact frx.rf.st ⟨rfl, rfl⟩, .inr ⟨H1.1, b, by rw [← hf]; exact db, by rw [← hf]; omega, .inl ⟨bm, ?_⟩⟩⟩
    rw [H1.2, rh_set_s]
    have e1 := tnp_e (t := s) (V := V) (b := 0) (k := 0) (by decide)
    have e2 : tnp V 3 = 1000 * V := by
      have : tnp (dvk s V 0 0) (3 - 0) = 1000 * V + (if (0 : Nat) = 0 then 0 else _) := e1
      rw [if_pos rfl] at this
      have e3 : dvk s V 0 0 = V := rfl
      rw [e3] at this
      rw [this]; omega
    rw [e2, hV, vlc f _ fb.1 (by omega), show c = b by omega]
    unfold sgd
    rw [st0, ← hf]
  have cm2 : c < m := by omega
  have tc : s c = t c := st c (by omega) (by omega)
  -- the sign behind
  have no_pt : ¬ (t c = 46 ∨ t c = 44) → ∀ y, ¬ Nm t m y := fun h y ⟨b', b1, b2, b3⟩ => by
    have eb := uniq b' b1
    rw [← hf] at b2
    have cb2 : c = b := by rw [hc, if_pos (by omega)]
    rcases b3 with ⟨b4, -⟩ | ⟨-, b5, -⟩
    · omega
    · rw [eb, ← cb2] at b5; exact h b5
  have tail0 : ∀ P : Int → rhM → Prop, (∀ w, P 0 (rh_set A 221 11 w)) → rh1 wh YX27_isNumber 2 204 [(0, 2, 221), (1, 2, x), (2, 0, a), (3, 0, m), (4, 0, c), (6, 0, V), (8, 0, 0)] [] A P := fun P HP => h_n204 hh (t := s) hx hG 3 0 V rfl V0.1 (fun y => by omega) (fun y => by omega) (fun _ => by omega) P (fun _ => by rw [rh_if_f cm]; exact HP _) (fun y => by omega)
  by_cases pt : t c = 46 ∨ t c = 44
  case neg =>
    refine ⟨0, rh_set A 221 11 (sgd s (tnp V 3)), eC.of1 (rC1.of (by decide) (LE0 rfl) (ent _ (rh1.s W (rh1.s (X.2.1 fc cm2) ?_)))), frx.rf.st ⟨rfl, rfl⟩, .inl ⟨rfl, no_pt pt⟩⟩
    refine rh1.of (rX27_isNumber_121 hh _ _ _ _ _ _ _ _ _ hx ?_)
    rw [tc]
    refine ⟨fun _ => rh1.s (vX27_isNumber_130 hx (hG c (by omega) (by omega)) (LE0 rfl)) ?_, fun y => absurd (.inl (Classical.not_not.mp y)) pt⟩
    refine rh1.of (rX27_isNumber_133 hh _ _ _ _ _ _ _ _ _ hx ?_)
    rw [tc]
    refine ⟨fun y => absurd (.inr y) pt, fun _ => ?_⟩
    exact h_n204 hh (t := s) hx hG 3 0 V rfl V0.1 (fun y => by omega) (fun y => by omega) (fun _ => by omega) _ (fun _ => by rw [rh_if_f cm]; exact ⟨rfl, rfl⟩) (fun y => by omega)
  have cE : c = b := by
    rw [hc]
    by_cases y : b ≤ f + 6
    · rw [if_pos y]
    · rw [hc, if_neg y] at pt
      have d := d3 (f + 6) (by omega) (by omega)
      unfold Dg at d
      rw [st (f + 6) (by omega) (by omega)] at d
      omega
  have to141 : ∀ P : Int → rhM → Prop, rh1 wh YX27_isNumber 2 141 [(0, 2, 221), (1, 2, x), (2, 0, a), (3, 0, m), (4, 0, c + 1), (6, 0, V), (7, 0, 0)] [] A P → rh1 wh YX27_isNumber 2 121 [(0, 2, 221), (1, 2, x), (2, 0, a), (3, 0, m), (4, 0, c), (6, 0, V), (7, 0, 0)] [(0, s c)] A P := fun P HP => by
    refine rh1.of (rX27_isNumber_121 hh _ _ _ _ _ _ _ _ _ hx ?_)
    rw [tc]
    refine ⟨fun y => rh1.s (vX27_isNumber_130 hx (hG c (by omega) (by omega)) (LE0 rfl)) ?_, fun _ => ⟨⟨by omega, by omega⟩, HP⟩⟩
    refine rh1.of (rX27_isNumber_133 hh _ _ _ _ _ _ _ _ _ hx ?_)
    rw [tc]
    exact ⟨fun _ => ⟨⟨by omega, by omega⟩, HP⟩, fun z => absurd (pt.elim (fun w => absurd w y) id) z⟩
  obtain ⟨e, de⟩ := Dr.ex (t := t) (m := m) (m - (c + 1)).toNat (c + 1) (by omega)
  have des := (drc (c + 1) e (by omega)).mpr de
  obtain ⟨⟨g1, g2⟩, g3, g4⟩ := id des
  obtain ⟨h, hhd⟩ : ∃ h, h = (if e ≤ c + 4 then e else c + 4) := ⟨_, rfl⟩
  have hb2 : c + 1 ≤ h ∧ h ≤ m ∧ h ≤ c + 4 ∧ h ≤ e := by rw [hhd]; split <;> omega
  have hxx : h = m ∨ h = c + 4 ∨ ¬ Dg (s h) := by
    rw [hhd]
    by_cases y : e ≤ c + 4
    · rw [if_pos y]
      rcases g4 with g4 | g4
      · exact .inl g4
      · exact .inr (.inr g4)
    · rw [if_neg y]; exact .inr (.inl rfl)
  have W2 := h_n141 hh (t := s) (b := c + 1) (e := h) (V := V) hx hG (by omega) (by omega) ⟨V0.1, by omega⟩ ⟨hb2.1, hb2.2.1, by omega⟩ (fun i i0 i1 => g3 i i0 (by omega)) (h - (c + 1)).toNat 0 (by omega)
  rw [show c + 1 + ((0 : Nat) : Int) = c + 1 by omega] at W2
  have W2' : eS wh YX27_isNumber 2 141 [(0, 2, 221), (1, 2, x), (2, 0, a), (3, 0, m), (4, 0, c + 1), (6, 0, V), (7, 0, 0)] [] A 141 [(0, 2, 221), (1, 2, x), (2, 0, a), (3, 0, m), (4, 0, h), (6, 0, dvk s V (c + 1) (h - (c + 1)).toNat), (7, 0, h - (c + 1))] [] A := W2
  obtain ⟨w1, w2, w3, w4, w5⟩ := dvk_b (t := s) (V := V) (b := c + 1) ⟨V0.1, by omega⟩ (h - (c + 1)).toNat (by omega) (fun i i0 i1 => g3 i i0 (by omega))
  obtain ⟨pl, hpl⟩ : ∃ pl : Nat, pl = (h - (c + 1)).toNat := ⟨_, rfl⟩
  have plI : h - (c + 1) = (pl : Int) := by omega
  rw [← hpl] at W2' w1 w2 w3 w4 w5
  rw [plI] at W2'
  have out141 : ∀ P : Int → rhM → Prop, (pl = 0 → P 0 A) → (pl ≠ 0 → rh1 wh YX27_isNumber 2 204 [(0, 2, 221), (1, 2, x), (2, 0, a), (3, 0, m), (4, 0, h), (6, 0, dvk s V (c + 1) pl), (8, 0, (pl : Int))] [] A P) → rh1 wh YX27_isNumber 2 141 [(0, 2, 221), (1, 2, x), (2, 0, a), (3, 0, m), (4, 0, h), (6, 0, dvk s V (c + 1) pl), (7, 0, (pl : Int))] [] A P := fun P h1 h2 => by
    refine rh1.of (rX27_isNumber_141 hh _ _ _ _ _ _ _ _ hx ?_)
    refine ⟨fun y => ?_, fun _ => ⟨fun y => h1 (by omega), fun y => h2 (by omega)⟩⟩
    have nd : ¬ Dg (s h) := by rcases hxx with q | q | q; exact absurd q (by omega); exact absurd q (by omega); exact q
    refine rh1.s (vX27_isNumber_157 hx (hG h (by omega) (by omega)) (LE0 rfl)) ?_
    refine rh1.of (rX27_isNumber_160 hh _ _ _ _ _ _ _ _ _ hx ?_)
    exact ⟨fun z => absurd z nd, fun _ => ⟨fun y => h1 (by omega), fun y => h2 (by omega)⟩⟩
  have uniq2 : ∀ e', Dr t m (b + 1) e' → e' = e := fun e' h => by rw [← cE] at h; exact h.one de
  by_cases p0 : pl = 0
  · refine ⟨0, A, eC.of1 (rC1.of (by decide) (LE0 rfl) (ent _ (rh1.s W (rh1.s (X.2.1 fc cm2) (to141 _ (rh1.s W2' (out141 _ (fun _ => ⟨rfl, rfl⟩) (fun y => absurd p0 y)))))))), frx.rf, .inl ⟨rfl, fun y ⟨b', b1, b2, b3⟩ => ?_⟩⟩
    have eb := uniq b' b1
    rw [eb] at b3
    rcases b3 with ⟨b4, -⟩ | ⟨-, -, e', e1, e2, -⟩
    · omega
    · have := uniq2 e' e1
      rw [hhd] at plI
      split at plI <;> omega
  obtain ⟨r1, hr1⟩ : ∃ r1, r1 = rh_if (h = m) (1 : Int) 0 := ⟨_, rfl⟩
  refine ⟨r1, rh_set A 221 11 (sgd s (tnp (dvk s V (c + 1) pl) (3 - pl))), eC.of1 (rC1.of (by decide) (LE0 rfl) (ent _ (rh1.s W (rh1.s (X.2.1 fc cm2) (to141 _ (rh1.s W2' (out141 _ (fun y => absurd y p0) (fun _ => ?_)))))))), frx.rf.st ⟨rfl, rfl⟩, ?_⟩
  · exact h_n204 hh (t := s) hx hG (3 - pl) pl _ (by omega) w1 (fun y => w4 (by omega)) (fun y => w3 (by omega)) (fun y => by omega) _ (fun _ => by rw [← hr1]; exact ⟨rfl, rfl⟩) (fun y => w5 (by omega))
  · by_cases hm2 : h = m
    · have he : h = e := by omega
      refine .inr ⟨by rw [hr1, rh_if_t hm2], b, by rw [← hf]; exact db, by rw [← hf]; omega, .inr ⟨by omega, by rw [← cE]; exact pt, e, by rw [← cE]; exact de, by omega, by omega, ?_⟩⟩
      rw [rh_set_s, tnp_e (by omega), if_neg p0, hV, vlc f _ fb.1 (by omega), vlc (c + 1) pl (by omega) (by omega)]
      unfold sgd
      rw [st0, ← hf, show (c - f).toNat = (b - f).toNat by omega, show e - b - 1 = (pl : Int) by omega, show ((pl : Int)).toNat = pl by omega, show c + 1 = b + 1 by omega]
    · refine .inl ⟨by rw [hr1, rh_if_f hm2], fun y ⟨b', b1, b2, b3⟩ => ?_⟩
      have eb := uniq b' b1
      rw [eb] at b3
      rcases b3 with ⟨b4, -⟩ | ⟨-, -, e', e1, e2, e3, -⟩
      · omega
      · have := uniq2 e' e1
        rw [hhd] at hm2
        split at hm2 <;> omega
end NumH
