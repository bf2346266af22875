/-! ===== LAYER 2: mendWith: the first set that mends ===== -/
section MendW
variable {wh wm : rhW}
def Gmw (b c j : Int) : Prop := c = 174 ∨ c = 175 ∨ (c = 176 ∧ b ≤ j) ∨ c = 177 ∨ c = 178
noncomputable def zt (B : rhM) (i : Int) : Int := rh_if (15 < B 1 i) 0 (B 1 i)
theorem m_sym (hm : rh_ms wm) {sz n b P e : Int} {B : rhM} (hz2 : 0 ≤ sz ∧ sz ≤ 15) : ∀ (u : Nat) (k : Int) (X : rhM), k + u = sz → 0 ≤ k → (∀ i, 0 ≤ i → i < k → X 174 i = zt B i) → frx (fun c _ => c = 174) B X → ∃ X', eS wm YX32_mendWith 4 28 [(0, 2, 0), (1, 0, sz), (2, 0, n), (3, 0, b), (4, 0, P), (5, 0, e), (6, 0, k)] [] X 73 [(0, 2, 0), (1, 0, sz), (2, 0, n), (3, 0, b), (4, 0, P), (5, 0, e), (6, 0, 0)] [] X' ∧ (∀ i, 0 ≤ i → i < sz → X' 174 i = zt B i) ∧ frx (fun c _ => c = 174) B X' := by
  intro u
  induction u with
  | zero =>
    intro k X hk k0 h g
    have ek : k = sz := by omega
    rw [ek] at h ⊢
    refine ⟨X, eS.of (fun P HP => ?_), h, g⟩
    refine rh1.of (rX32_mendWith_28 hm _ _ _ _ _ _ _ ?_)
    exact ⟨fun y => by omega, fun _ => HP⟩
  | succ u ih =>
    intro k X hk k0 h g
    have e1 : X 1 k = B 1 k := g 1 k (by omega)
    obtain ⟨X', E, r⟩ := ih (k + 1) (rh_set X 174 k (zt B k)) (by omega) (by omega) (fun i i0 i1 => by
      by_cases y : i = k
      · rw [y, rh_set_s]
      · rw [rh_set_j y]; exact h i i0 (by omega)) (g.st rfl)
    refine ⟨X', eS.of (fun P HP => ?_), r⟩
    refine rh1.of (rX32_mendWith_28 hm _ _ _ _ _ _ _ ?_)
    rw [e1]
    refine ⟨fun _ => ⟨⟨by omega, by omega⟩, fun _ => ⟨by omega, by omega⟩, ?_⟩, fun y => by omega⟩
    (intro zq hzq; replace hzq := hzq.symm; subst hzq)
    exact ⟨⟨by omega, by omega⟩, ⟨by omega, by omega⟩, rh1.s E HP⟩
theorem m_unk (hm : rh_ms wm) {sz n b P e : Int} {B : rhM} {a pp : Int → Int} (hb : 0 ≤ b ∧ b + e ≤ 8) (ha : ∀ k, 0 ≤ k → k < e → B 178 k = a k ∧ 0 ≤ a k ∧ a k < 15) (hp : ∀ k, B 179 k = pp k) : ∀ (u : Nat) (k : Int) (X : rhM), k + u = e → 0 ≤ k → (∀ i, 0 ≤ i → i < k → X 176 (b + i) = pp (a i)) → frx (fun c j => c = 176 ∧ b ≤ j) B X → ∃ X', eS wm YX32_mendWith 4 73 [(0, 2, 0), (1, 0, sz), (2, 0, n), (3, 0, b), (4, 0, P), (5, 0, e), (6, 0, k)] [] X 73 [(0, 2, 0), (1, 0, sz), (2, 0, n), (3, 0, b), (4, 0, P), (5, 0, e), (6, 0, e)] [] X' ∧ (∀ i, 0 ≤ i → i < e → X' 176 (b + i) = pp (a i)) ∧ frx (fun c j => c = 176 ∧ b ≤ j) B X' := by
  intro u
  induction u with
  | zero =>
    intro k X hk k0 h g
    have ek : k = e := by omega
    rw [ek] at h ⊢
    exact ⟨X, eS.rf, h, g⟩
  | succ u ih =>
    intro k X hk k0 h g
    obtain ⟨a1, a2, a3⟩ := ha k k0 (by omega)
    have e1 : X 178 k = a k := by rw [g 178 k (by omega)]; exact a1
    have e2 : X 179 (a k) = pp (a k) := by rw [g 179 _ (by omega)]; exact hp _
    obtain ⟨X', E, r⟩ := ih (k + 1) (rh_set X 176 (b + k) (pp (a k))) (by omega) (by omega) (fun i i0 i1 => by
      by_cases y : i = k
      · rw [y, rh_set_s]
      · rw [rh_set_j (by omega)]; exact h i i0 (by omega)) (g.st ⟨rfl, by omega⟩)
    refine ⟨X', eS.of (fun P HP => ?_), r⟩
    refine rh1.of (rX32_mendWith_73 hm _ _ _ _ _ _ _ ?_)
    rw [e1, e2]
    exact ⟨fun _ => ⟨⟨by omega, by omega⟩, ⟨by omega, by omega⟩, ⟨by omega, by omega⟩, ⟨by omega, by omega⟩, rh1.s E HP⟩, fun y => by omega⟩
def Mtr (B0 B' : rhM) (z pp a : Int → Int) (sz n b e v : Int) : Prop := (v = 0 ∧ ¬ OKq z sz n b (B0 176) e (fun k => pp (a k))) ∨ (v = 1 ∧ ∃ W, (Off W z (plc b (B0 176) (fun k => pp (a k))) sz (b + e).toNat ∧ Rgt W sz n) ∧ (∀ c, 0 ≤ c → c < b + e → B' 176 c = plc b (B0 176) (fun k => pp (a k)) c ∧ B' 177 c = W (plc b (B0 176) (fun k => pp (a k)) c)) ∧ ∀ i, 0 ≤ i → i < sz → (¬ ∃ c, (0 ≤ c ∧ c < b + e) ∧ plc b (B0 176) (fun k => pp (a k)) c = i) → B' 174 i = z i)
theorem m_try (hh : rh_hs wh) (hm : rh_ms wm) {A0 B0 B : rhM} {a : Int → Int} {sz n b P e : Int} (R : Rmn A0) (hn : 1 ≤ n ∧ n ≤ 8) (hz2 : 0 ≤ sz ∧ sz ≤ 15) (ht : ∀ i, 0 ≤ i → i < sz → 0 ≤ B0 1 i ∧ B0 1 i ≤ 16) (hb : Blk (B0 1) sz b (B0 176)) (hp : Plz (B0 1) sz P (B0 179)) (he : 0 ≤ e ∧ b + e ≤ n) (hP : P ≤ 15) (f : frx (Gmw b) B0 B) (h175 : ∀ j, 0 ≤ j → j < 72 → R16 (B 175 j)) (h178 : ∀ k, 0 ≤ k → k < e → B 178 k = a k) (ha : Cix P e a) :
    ∃ v B', (∀ Q : Int → rhM → Prop, rh1 wm YX32_mendWith 4 117 [(0, 2, 0), (1, 0, sz), (2, 0, n), (3, 0, b), (4, 0, P), (5, 0, e)] [(0, v)] B' Q → rh1 wm YX32_mendWith 4 25 [(0, 2, 0), (1, 0, sz), (2, 0, n), (3, 0, b), (4, 0, P), (5, 0, e)] [] B Q) ∧ frx (Gmw b) B0 B' ∧ (∀ j, 0 ≤ j → j < 72 → R16 (B' 175 j)) ∧ (∀ k, B' 178 k = B 178 k) ∧ Mtr B0 B' (zt B0) (B0 179) a sz n b e v := by
  have b0 := hb.1
  have t1 : ∀ i, B 1 i = B0 1 i := fun i => f 1 i (by unfold Gmw; omega)
  have zB : ∀ i, zt B i = zt B0 i := fun i => by unfold zt; rw [t1]
  obtain ⟨B1, E1, s1, g1⟩ := m_sym hm (n := n) (b := b) (P := P) (e := e) (B := B) hz2 sz.toNat 0 B (by omega) (by decide) (fun i i0 i1 => by omega) frx.rf
  obtain ⟨B2, E2, u2, g2⟩ := m_unk hm (sz := sz) (n := n) (b := b) (P := P) (e := e) (B := B1) (a := a) (pp := B0 179) ⟨by omega, by omega⟩ (fun k k0 k1 => by
    rw [g1 178 k (by omega)]
    have := ha k k0 k1
    exact ⟨h178 k k0 k1, this.1, by omega⟩) (fun k => by rw [g1 179 k (by omega)]; exact f 179 k (by unfold Gmw; omega)) e.toNat 0 B1 (by omega) (by decide) (fun i i0 i1 => by omega) frx.rf
  have hc := ha.cmb hp
  have pl : ∀ c, 0 ≤ c → c < b + e → B2 176 c = plc b (B0 176) (fun k => B0 179 (a k)) c := fun c c0 c1 => by
    by_cases y : c < b
    · rw [plc_b y, g2 176 c (by omega), g1 176 c (by omega)]; exact f 176 c (by unfold Gmw; omega)
    · rw [show c = b + (c - b) by omega, plc_q (by omega)]; exact u2 (c - b) (by omega) (by omega)
  have mN : (((b + e).toNat : Nat) : Int) = b + e := by omega
  have zr : ∀ i, 0 ≤ i → i < sz → R16 (zt B0 i) := fun i i0 i1 => by
    have := ht i i0 i1
    unfold zt R16
    by_cases y : 15 < B0 1 i
    · rw [rh_if_t y]; decide
    · rw [rh_if_f y]; omega
  obtain ⟨v, B3, E3, cs, g3, w3, r3⟩ := s_m hh hm (A0 := A0) (B := B2) (n := n) (sz := sz) (m := (b + e).toNat) (z := zt B0) R (by omega) hn (by omega) hz2 (fun c c0 c1 => by rw [pl c c0 (by omega)]; exact plc_r hb hc c0 (by omega)) (fun x y x0 x1 y0 y1 h => by rw [pl x x0 (by omega), pl y y0 (by omega)] at h; exact plc_d hb hc x0 (by omega) y0 (by omega) h) zr (fun i i0 i1 _ => by rw [g2 174 i (by omega), s1 i i0 i1, zB]) (fun j j0 j1 => by rw [g2 175 j (by omega), g1 175 j (by omega)]; exact h175 j j0 j1)
  rw [mN] at E3
  refine ⟨v, B3, fun Q HQ => ?_, f.tr ((g1.w (fun c j h => .inl h)).tr ((g2.w (fun c j h => .inr (.inr (.inl h)))).tr (g3.w (fun c j h => by unfold Gmw; omega)))), r3, fun k => by rw [g3 178 k (by omega), g2 178 k (by omega), g1 178 k (by omega)], ?_⟩
  · refine rh1.of (rX32_mendWith_25 hm _ _ _ _ _ _ ?_)
    refine rh1.s E1 (rh1.s E2 ?_)
    refine rh1.of (rX32_mendWith_73 hm _ _ _ _ _ _ _ ?_)
    refine ⟨fun y => by omega, fun _ => rh1.s (eS.fx 0 (x := b + e) rfl ⟨by omega, by omega⟩ rfl) (rh1.s (vX32_mendWith_114 hm E3 (LE0 rfl)) HQ)⟩
  · rcases cs with ⟨c1, -, c3⟩ | ⟨c1, W, w1, w2, w4⟩
    · refine .inl ⟨c1, fun ⟨W, w1, w2⟩ => c3 W (w1.cg (fun c c0 c1 => ?_)) w2⟩
      exact pl c c0 (by omega)
    · refine .inr ⟨c1, W, ⟨w1.cg (fun c c0 c1 => (pl c c0 (by omega)).symm), w2⟩, fun c c0 c1 => ?_, fun i i0 i1 ni => ?_⟩
      · rw [← pl c c0 c1, g3 176 c (by omega)]
        exact ⟨rfl, w4 c c0 (by omega)⟩
      · rw [w3 i]
        unfold wip0
        rw [rh_if_f (fun ⟨c, c1, c2⟩ => ni ⟨c, by omega, by rw [← pl c c1.1 (by omega)]; exact c2⟩), g2 174 i (by omega), s1 i i0 i1, zB]
theorem m_back0 (hm : rh_ms wm) {B : rhM} {a : Int → Int} {sz n b P e : Int} (he : 0 ≤ e ∧ e ≤ 8) (hP : 0 ≤ P ∧ P ≤ 15) (h178 : ∀ k, 0 ≤ k → k < e → B 178 k = a k) : ∀ (u : Nat) (k : Int), k + 1 = u → k < e → (∀ i, k < i → i < e → a i = P - e + i) → (∃ k', (0 ≤ k' ∧ k' < e) ∧ a k' ≠ P - e + k' ∧ (∀ i, k' < i → i < e → a i = P - e + i) ∧ eS wm YX32_mendWith 4 128 [(0, 2, 0), (1, 0, sz), (2, 0, n), (3, 0, b), (4, 0, P), (5, 0, e), (6, 0, k)] [] B 128 [(0, 2, 0), (1, 0, sz), (2, 0, n), (3, 0, b), (4, 0, P), (5, 0, e), (6, 0, k')] [] B) ∨ ((∀ i, 0 ≤ i → i < e → a i = P - e + i) ∧ eS wm YX32_mendWith 4 128 [(0, 2, 0), (1, 0, sz), (2, 0, n), (3, 0, b), (4, 0, P), (5, 0, e), (6, 0, k)] [] B 128 [(0, 2, 0), (1, 0, sz), (2, 0, n), (3, 0, b), (4, 0, P), (5, 0, e), (6, 0, -1)] [] B) := by
  intro u
  induction u with
  | zero =>
    intro k hk k1 h
    have ek : k = -1 := by omega
    rw [ek] at h ⊢
    exact .inr ⟨fun i i0 i1 => h i (by omega) i1, eS.rf⟩
  | succ u ih =>
    intro k hk k1 h
    by_cases y : a k = P - e + k
    · have st : eS wm YX32_mendWith 4 128 [(0, 2, 0), (1, 0, sz), (2, 0, n), (3, 0, b), (4, 0, P), (5, 0, e), (6, 0, k)] [] B 128 [(0, 2, 0), (1, 0, sz), (2, 0, n), (3, 0, b), (4, 0, P), (5, 0, e), (6, 0, k - 1)] [] B := eS.of (fun Q HQ => by
        refine rh1.of (rX32_mendWith_128 hm _ _ _ _ _ _ _ ?_)
        rw [h178 k (by omega) k1]
        refine ⟨fun _ => ⟨by omega, by omega⟩, fun _ => ⟨by omega, by omega⟩, fun _ => ⟨⟨by omega, by omega⟩, ?_⟩, fun z => absurd ⟨by omega, y⟩ z⟩
        rw [show k + (-1) = k - 1 by omega]
        exact HQ)
      rcases ih (k - 1) (by omega) (by omega) (fun i i0 i1 => by
        by_cases z : i = k
        · rw [z]; exact y
        · exact h i (by omega) i1) with ⟨k', q1, q2, q3, q4⟩ | ⟨q1, q2⟩
      · exact .inl ⟨k', q1, q2, q3, st.tr q4⟩
      · exact .inr ⟨q1, st.tr q2⟩
    · exact .inl ⟨k, by omega, y, h, eS.rf⟩
theorem m_rise (hm : rh_ms wm) {B : rhM} {a : Int → Int} {sz n b P e k : Int} (he : e ≤ 8) (hk : 0 ≤ k ∧ k < e) (hr : ∀ i, 0 ≤ i → i < e → -100 ≤ nxs a k i ∧ nxs a k i ≤ 100) : ∀ (u : Nat) (i : Int) (X : rhM), i + u = e → k < i → (∀ j, 0 ≤ j → j < i → X 178 j = nxs a k j) → frx (fun c _ => c = 178) B X → ∃ X', eS wm YX32_mendWith 4 181 [(0, 2, 0), (1, 0, sz), (2, 0, n), (3, 0, b), (4, 0, P), (5, 0, e), (7, 0, i)] [] X 25 [(0, 2, 0), (1, 0, sz), (2, 0, n), (3, 0, b), (4, 0, P), (5, 0, e)] [] X' ∧ (∀ j, 0 ≤ j → j < e → X' 178 j = nxs a k j) ∧ frx (fun c _ => c = 178) B X' := by
  intro u
  induction u with
  | zero =>
    intro i X hi ki h g
    have ei : i = e := by omega
    rw [ei] at h ⊢
    refine ⟨X, eS.of (fun Q HQ => ?_), h, g⟩
    refine rh1.of (rX32_mendWith_181 hm _ _ _ _ _ _ _ ?_)
    exact ⟨fun y => by omega, fun _ => HQ⟩
  | succ u ih =>
    intro i X hi ki h g
    have e1 := h (i - 1) (by omega) (by omega)
    have r1 := hr (i - 1) (by omega) (by omega)
    have nx : nxs a k (i - 1) + 1 = nxs a k i := by
      unfold nxs
      rw [if_neg (by omega), if_neg (by omega)]
      omega
    obtain ⟨X', E, r⟩ := ih (i + 1) (rh_set X 178 i (nxs a k i)) (by omega) (by omega) (fun j j0 j1 => by
      by_cases y : j = i
      · rw [y, rh_set_s]
      · rw [rh_set_j y]; exact h j j0 (by omega)) (g.st rfl)
    refine ⟨X', eS.of (fun Q HQ => ?_), r⟩
    refine rh1.of (rX32_mendWith_181 hm _ _ _ _ _ _ _ ?_)
    rw [e1, nx]
    exact ⟨fun _ => ⟨⟨by omega, by omega⟩, ⟨by omega, by omega⟩, ⟨by omega, by omega⟩, ⟨by omega, by omega⟩, rh1.s E HQ⟩, fun y => by omega⟩
def Mrs (B0 B' : rhM) (z pp : Int → Int) (sz n b P e r : Int) : Prop := (r = 0 ∧ ∀ a, Cix P e a → ¬ OKq z sz n b (B0 176) e (fun k => pp (a k))) ∨ (r = 1 ∧ ∃ a, Cix P e a ∧ Mtr B0 B' z pp a sz n b e 1 ∧ ∀ a', Cix P e a' → OKq z sz n b (B0 176) e (fun k => pp (a' k)) → ¬ Lx a' a e)
theorem OKq.cg {z : Int → Int} {sz n b e : Int} {pb q q' : Int → Int} (he : 0 ≤ b + e) (h : ∀ k, 0 ≤ k → k < e → q' k = q k) (o : OKq z sz n b pb e q) : OKq z sz n b pb e q' := by
  obtain ⟨W, w1, w2⟩ := o
  exact ⟨W, w1.cg (fun c c0 c1 => plc_g h (by omega)), w2⟩
theorem c_mendW (hh : rh_hs wh) (hm : rh_ms wm) {A0 B0 : rhM} {sz n b P e : Int} (R : Rmn A0) (hn : 1 ≤ n ∧ n ≤ 8) (hz2 : 0 ≤ sz ∧ sz ≤ 15) (ht : ∀ i, 0 ≤ i → i < sz → 0 ≤ B0 1 i ∧ B0 1 i ≤ 16) (hb : Blk (B0 1) sz b (B0 176)) (hp : Plz (B0 1) sz P (B0 179)) (he : 0 ≤ e ∧ b + e ≤ n ∧ e ≤ P) (hP : P ≤ 15) (h175 : ∀ j, 0 ≤ j → j < 72 → R16 (B0 175 j)) :
    ∃ r B', eC wm YX32_mendWith 4 [(2, 0), (0, sz), (0, n), (0, b), (0, P), (0, e)] B0 r B' ∧ frx (Gmw b) B0 B' ∧ (∀ j, 0 ≤ j → j < 72 → R16 (B' 175 j)) ∧ Mrs B0 B' (zt B0) (B0 179) sz n b P e r := by
  have b0 := hb.1
  have eN : ((e.toNat : Nat) : Int) = e := by omega
  have rng : ∀ a, Cix P e a → ∀ k : Int, 0 ≤ k → k < ((e.toNat : Nat) : Int) → 0 ≤ a k ∧ a k ≤ 15 := fun a ha k k0 k1 => by
    have := ha k k0 (by omega)
    omega
  have main : ∀ (u : Nat) (a : Int → Int) (B : rhM), (16 ^ e.toNat - vlx a e.toNat).toNat = u → frx (Gmw b) B0 B → (∀ j, 0 ≤ j → j < 72 → R16 (B 175 j)) → (∀ k, 0 ≤ k → k < e → B 178 k = a k) → Cix P e a → (∀ a', Cix P e a' → Lx a' a e → ¬ OKq (zt B0) sz n b (B0 176) e (fun k => B0 179 (a' k))) → ∃ r B', (∀ Q : Int → rhM → Prop, Q r B' → rh1 wm YX32_mendWith 4 25 [(0, 2, 0), (1, 0, sz), (2, 0, n), (3, 0, b), (4, 0, P), (5, 0, e)] [] B Q) ∧ frx (Gmw b) B0 B' ∧ (∀ j, 0 ≤ j → j < 72 → R16 (B' 175 j)) ∧ Mrs B0 B' (zt B0) (B0 179) sz n b P e r := by
    intro u
    induction u using Nat.strongRecOn with
    | ind u ih =>
      intro a B hu f r5 h178 ha hno
      obtain ⟨v, B1, S1, f1, s5, s8, T⟩ := m_try hh hm R hn hz2 ht hb hp ⟨he.1, he.2.1⟩ hP f r5 h178 ha
      have k8 : ∀ k, 0 ≤ k → k < e → B1 178 k = a k := fun k k0 k1 => by rw [s8]; exact h178 k k0 k1
      rcases id T with ⟨v0, no⟩ | ⟨v1, W, w1, w2, w3⟩
      · have go : ∀ Q : Int → rhM → Prop, rh1 wm YX32_mendWith 4 128 [(0, 2, 0), (1, 0, sz), (2, 0, n), (3, 0, b), (4, 0, P), (5, 0, e), (6, 0, e - 1)] [] B1 Q → rh1 wm YX32_mendWith 4 25 [(0, 2, 0), (1, 0, sz), (2, 0, n), (3, 0, b), (4, 0, P), (5, 0, e)] [] B Q := fun Q HQ => S1 Q (by
          refine rh1.of (rX32_mendWith_117 hm _ _ _ _ _ _ _ ?_)
          rw [v0]
          exact ⟨fun y => absurd rfl y, fun _ => ⟨⟨by omega, by omega⟩, HQ⟩⟩)
        rcases m_back0 hm (sz := sz) (n := n) (b := b) (P := P) (e := e) ⟨by omega, by omega⟩ ⟨hp.1, hP⟩ k8 e.toNat (e - 1) (by omega) (by omega) (fun i i0 i1 => by omega) with ⟨k, k1, k2, k3, E⟩ | ⟨al, E⟩
        · have rk := ha k k1.1 k1.2
          have lk : a k < P - e + k := by omega
          have nc := nxs_c ha k1 lk
          have nl : Lx a (nxs a k) e := nxs_l k1
          have nlN : Lx a (nxs a k) ((e.toNat : Nat) : Int) := by rw [eN]; exact nl
          have v1 := vlx_l e.toNat (rng a ha) (rng _ nc) nlN
          have v2 := vlx_b e.toNat (rng _ nc)
          obtain ⟨B2, E2, q2, g2⟩ := m_rise hm (B := rh_set B1 178 k (a k + 1)) (a := a) (sz := sz) (n := n) (b := b) (P := P) (e := e) (k := k) (by omega) k1 (fun i i0 i1 => by have := rng _ nc i i0 (by omega); omega) (e - (k + 1)).toNat (k + 1) _ (by omega) (by omega) (fun j j0 j1 => by
            by_cases y : j = k
            · rw [y, rh_set_s]; unfold nxs; rw [if_neg (by omega)]; omega
            · rw [rh_set_j y, k8 j j0 (by omega)]; unfold nxs; rw [if_pos (by omega)]) frx.rf
          have f2 : frx (Gmw b) B0 B2 := (f1.st (.inr (.inr (.inr (.inr rfl))))).tr (g2.w (fun c j h => .inr (.inr (.inr (.inr h)))))
          obtain ⟨r, B', H, f', s', rs⟩ := ih _ (by omega) (nxs a k) B2 rfl f2 (fun j j0 j1 => by rw [g2 175 j (by omega), rh_set_a (by decide)]; exact s5 j j0 j1) q2 nc (fun a' ha' lx => by
            rcases nxs_m k1 ha' k3 lx with l | l
            · exact hno a' ha' l
            · exact fun o => no (o.cg (by omega) (fun j j0 j1 => by show B0 179 (a j) = B0 179 (a' j); rw [l j j0 j1])))
          refine ⟨r, B', fun Q HQ => go Q (rh1.s E ?_), f', s', rs⟩
          refine rh1.of (rX32_mendWith_128 hm _ _ _ _ _ _ _ ?_)
          rw [k8 k k1.1 k1.2]
          refine ⟨fun _ => ⟨by omega, by omega⟩, fun _ => ⟨by omega, by omega⟩, fun y => absurd y.2 k2, fun _ => ⟨fun y => by omega, fun _ => ⟨⟨by omega, by omega⟩, ⟨by omega, by omega⟩, ⟨by omega, by omega⟩, ⟨by omega, by omega⟩, rh1.s E2 (H Q HQ)⟩⟩⟩
        · refine ⟨0, B1, fun Q HQ => go Q (rh1.s E ?_), f1, s5, .inl ⟨rfl, fun c hc o => ?_⟩⟩
          · refine rh1.of (rX32_mendWith_128 hm _ _ _ _ _ _ _ ?_)
            exact ⟨fun y => by omega, fun y => by omega, fun y => by omega, fun _ => ⟨fun _ => HQ, fun y => by omega⟩⟩
          · rcases nxs_z hc al with l | l
            · exact hno c hc l o
            · exact no (o.cg (by omega) (fun j j0 j1 => by show B0 179 (a j) = B0 179 (c j); rw [l j j0 j1]))
      · refine ⟨1, B1, fun Q HQ => S1 Q ?_, f1, s5, .inr ⟨rfl, a, ha, .inr ⟨rfl, W, w1, w2, w3⟩, fun a' ha' o lx => hno a' ha' lx o⟩⟩
        refine rh1.of (rX32_mendWith_117 hm _ _ _ _ _ _ _ ?_)
        rw [v1]
        exact ⟨fun _ => HQ, fun y => absurd (by decide) y⟩
  have ini : ∀ (u : Nat) (k : Int) (X : rhM), k + u = e → 0 ≤ k → (∀ i, 0 ≤ i → i < k → X 178 i = i) → frx (fun c _ => c = 178) B0 X → ∃ X', eS wm YX32_mendWith 4 3 [(0, 2, 0), (1, 0, sz), (2, 0, n), (3, 0, b), (4, 0, P), (5, 0, e), (6, 0, k)] [] X 25 [(0, 2, 0), (1, 0, sz), (2, 0, n), (3, 0, b), (4, 0, P), (5, 0, e)] [] X' ∧ (∀ i, 0 ≤ i → i < e → X' 178 i = i) ∧ frx (fun c _ => c = 178) B0 X' := by
    intro u
    induction u with
    | zero =>
      intro k X hk k0 h g
      have ek : k = e := by omega
      rw [ek] at h ⊢
      refine ⟨X, eS.of (fun Q HQ => ?_), h, g⟩
      refine rh1.of (rX32_mendWith_3 hm _ _ _ _ _ _ _ ?_)
      exact ⟨fun y => by omega, fun _ => HQ⟩
    | succ u ih =>
      intro k X hk k0 h g
      obtain ⟨X', E, r⟩ := ih (k + 1) (rh_set X 178 k k) (by omega) (by omega) (fun i i0 i1 => by
        by_cases y : i = k
        · rw [y, rh_set_s]
        · rw [rh_set_j y]; exact h i i0 (by omega)) (g.st rfl)
      refine ⟨X', eS.of (fun Q HQ => ?_), r⟩
      refine rh1.of (rX32_mendWith_3 hm _ _ _ _ _ _ _ ?_)
      exact ⟨fun _ => ⟨⟨by omega, by omega⟩, ⟨by omega, by omega⟩, rh1.s E HQ⟩, fun y => by omega⟩
  obtain ⟨B1, E1, i1, g1⟩ := ini e.toNat 0 B0 (by omega) (by decide) (fun i i0 i1 => by omega) frx.rf
  obtain ⟨r, B', H, f', s', rs⟩ := main _ (fun k => k) B1 rfl (g1.w (fun c j h => .inr (.inr (.inr (.inr h))))) (fun j j0 j1 => by rw [g1 175 j (by omega)]; exact h175 j j0 j1) i1 (fun k k0 k1 => ⟨k0, by show k ≤ P - e + k; omega, fun _ => by show k < k + 1; omega⟩) (fun a' ha' lx => by
    obtain ⟨k, k1, k2, k3⟩ := lx
    have k3' : a' k < k := k3
    by_cases y : k = 0
    · have := (ha' k k1.1 k1.2).1; omega
    · have := ris_lt ha'.up (a := 0) (b := k) (by decide) (by omega) k1.2
      have := (ha' 0 (by decide) (by omega)).1
      omega)
  refine ⟨r, B', eC.of1 (rC1.of (by decide) (LE0 rfl) ?_), f', s', rs⟩
  refine rh1.of (rX32_mendWith_0 hm _ _ _ _ _ _ ?_)
  exact rh1.s E1 (H _ ⟨rfl, rfl⟩)
end MendW
