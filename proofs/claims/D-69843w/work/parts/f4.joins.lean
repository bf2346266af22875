/-! ===== LAYER 2: ruled pages: the joins on both sides (printed by gen2/gen_f4.py) ===== -/
section Joins
variable {wh wm : rhW}
/-- the model's count of places along a rule -/
theorem m_cnt1 (hm : rh_ms wm) {A B : rhM} (R : Rpg A B) {p i j w4 cell x7 s t fr la : Int} (hp : 0 ≤ p ∧ p < 8) (hi : 0 ≤ i ∧ i + 1 < 130) (hj : 0 ≤ j ∧ j + 1 < 100) (h1 : B 171 (i + 1) = fr) (h2 : B 172 (i + 1) = la) (h3 : B 169 (j + 1) = t) (hb1 : 0 ≤ fr ∧ fr ≤ la ∧ la ≤ 200) (hst : 0 ≤ s ∧ s ≤ 200 ∧ 0 ≤ t ∧ t ≤ 200) : ∀ (u v : Nat), ((v : Int) + u = t - s ∨ (u = 0 ∧ v = 0 ∧ t ≤ s)) → eS wm YX32_joinCells 3 56 [(0, 2, 0), (1, 0, p), (2, 0, i), (3, 0, j), (4, 0, w4), (5, 0, cell), (6, 0, cnk (fun k => Ikw B p 1 fr (la + 1) k) s v), (7, 0, x7), (8, 0, s + v)] [] B 56 [(0, 2, 0), (1, 0, p), (2, 0, i), (3, 0, j), (4, 0, w4), (5, 0, cell), (6, 0, cnk (fun k => Ikw B p 1 fr (la + 1) k) s (t - s).toNat), (7, 0, x7), (8, 0, s + ((t - s).toNat : Nat))] [] B := by
  intro u
  induction u with
  | zero =>
    intro v hv
    have e : v = (t - s).toNat := by omega
    rw [e]
    exact eS.rf
  | succ u ih =>
    intro v hv
    have b := cnk_b (Q := fun k => Ikw B p 1 fr (la + 1) k) (s := s) v
    have i01 := if01 (Ikw B p 1 fr (la + 1) (s + v))
    refine eS.of (fun P HP => ?_)
    refine rh1.of (rX32_joinCells_56 hm _ _ _ _ _ _ _ _ _ ?_)
    rw [h1, h2, h3]
    refine ⟨⟨by omega, by omega⟩, fun _ => ⟨⟨by omega, by omega⟩, ⟨by omega, by omega⟩, rh1.s (vX32_joinCells_92 hm (c_inked hm R (p := p) (way := 1) (fr := fr) (la := la) (k := s + v) (t := 0) hp hb1 (.inr ⟨rfl, rfl⟩)) (LE0 rfl)) ?_⟩, fun z => by omega⟩
    refine rh1.of (rX32_joinCells_95 hm _ _ _ _ _ _ _ _ _ _ ?_)
    have e : rh_if (rh_if (Ikw B p 1 fr (la + 1) (s + v)) (1 : Int) 0 ≠ 0) (1 : Int) 0 = rh_if (Ikw B p 1 fr (la + 1) (s + v)) 1 0 := by
      by_cases q : Ikw B p 1 fr (la + 1) (s + v)
      · rw [rh_if_t q, rh_if_t (by decide)]
      · rw [rh_if_f q, rh_if_f (by decide)]
    rw [e]
    (intro zq hzq; replace hzq := hzq.symm; subst hzq)
    refine ⟨⟨by omega, by omega⟩, ⟨by omega, by omega⟩, ?_⟩
    rw [show s + (v : Int) + 1 = s + ((v + 1 : Nat) : Int) by omega]
    exact rh1.s (ih (v + 1) (.inl (by omega))) HP
/-- the model's count of places along a rule -/
theorem m_cnt0 (hm : rh_ms wm) {A B : rhM} (R : Rpg A B) {p i j w4 cell x7 s t fr la : Int} (hp : 0 ≤ p ∧ p < 8) (hi : 0 ≤ i ∧ i + 1 < 130) (hj : 0 ≤ j ∧ j + 1 < 100) (h1 : B 169 (j + 1) = fr) (h2 : B 170 (j + 1) = la) (h3 : B 171 (i + 1) = t) (hb1 : 0 ≤ fr ∧ fr ≤ la ∧ la ≤ 200) (hst : 0 ≤ s ∧ s ≤ 200 ∧ 0 ≤ t ∧ t ≤ 200) : ∀ (u v : Nat), ((v : Int) + u = t - s ∨ (u = 0 ∧ v = 0 ∧ t ≤ s)) → eS wm YX32_joinCells 3 175 [(0, 2, 0), (1, 0, p), (2, 0, i), (3, 0, j), (4, 0, w4), (5, 0, cell), (6, 0, cnk (fun k => Ikw B p 0 fr (la + 1) k) s v), (7, 0, x7), (8, 0, s + v)] [] B 175 [(0, 2, 0), (1, 0, p), (2, 0, i), (3, 0, j), (4, 0, w4), (5, 0, cell), (6, 0, cnk (fun k => Ikw B p 0 fr (la + 1) k) s (t - s).toNat), (7, 0, x7), (8, 0, s + ((t - s).toNat : Nat))] [] B := by
  intro u
  induction u with
  | zero =>
    intro v hv
    have e : v = (t - s).toNat := by omega
    rw [e]
    exact eS.rf
  | succ u ih =>
    intro v hv
    have b := cnk_b (Q := fun k => Ikw B p 0 fr (la + 1) k) (s := s) v
    have i01 := if01 (Ikw B p 0 fr (la + 1) (s + v))
    refine eS.of (fun P HP => ?_)
    refine rh1.of (rX32_joinCells_175 hm _ _ _ _ _ _ _ _ _ ?_)
    rw [h1, h2, h3]
    refine ⟨⟨by omega, by omega⟩, fun _ => ⟨⟨by omega, by omega⟩, ⟨by omega, by omega⟩, rh1.s (vX32_joinCells_211 hm (c_inked hm R (p := p) (way := 0) (fr := fr) (la := la) (k := s + v) (t := 1) hp hb1 (.inl ⟨rfl, rfl⟩)) (LE0 rfl)) ?_⟩, fun z => by omega⟩
    refine rh1.of (rX32_joinCells_214 hm _ _ _ _ _ _ _ _ _ _ ?_)
    have e : rh_if (rh_if (Ikw B p 0 fr (la + 1) (s + v)) (1 : Int) 0 ≠ 0) (1 : Int) 0 = rh_if (Ikw B p 0 fr (la + 1) (s + v)) 1 0 := by
      by_cases q : Ikw B p 0 fr (la + 1) (s + v)
      · rw [rh_if_t q, rh_if_t (by decide)]
      · rw [rh_if_f q, rh_if_f (by decide)]
    rw [e]
    (intro zq hzq; replace hzq := hzq.symm; subst hzq)
    refine ⟨⟨by omega, by omega⟩, ⟨by omega, by omega⟩, ?_⟩
    rw [show s + (v : Int) + 1 = s + ((v + 1 : Nat) : Int) by omega]
    exact rh1.s (ih (v + 1) (.inl (by omega))) HP
theorem Bkp_f {B B1 : rhM} {F : Int → Int → Prop} (f : frx F B B1) (h : ∀ c j, 3 ≤ c → c ≤ 5 → ¬ F c j) : Bkp B1 = Bkp B := by
  funext p x y
  unfold Bkp
  rw [f 3 _ (h _ _ (by decide) (by decide)), f 4 _ (h _ _ (by decide) (by decide)), f 5 _ (h _ _ (by decide) (by decide))]
theorem Jnd_f {B B1 : rhM} {F : Int → Int → Prop} (f : frx F B B1) (h : ∀ c j, 3 ≤ c → c ≤ 5 → ¬ F c j) (p way fr la s t : Int) : Jnd B1 p way fr la s t = Jnd B p way fr la s t := by
  unfold Jnd Ikw Bkw
  rw [Bkp_f f h]
def Rul (A B : rhM) : Prop := Rlw A B 0 218 169 170 ∧ Rlw A B 1 219 171 172
def JR (B : rhM) (p i j : Int) : Prop := Jnd B p 1 (B 171 (i + 1)) (B 172 (i + 1)) (B 170 j + 1) (B 169 (j + 1))
def JD (B : rhM) (p i j : Int) : Prop := Jnd B p 0 (B 169 (j + 1)) (B 170 (j + 1)) (B 172 i + 1) (B 171 (i + 1))
/-- cells joined beside or under one another -/
def Edg (B : rhM) (p w h a b : Int) : Prop := ∃ i j, (0 ≤ i ∧ i < w ∧ 0 ≤ j ∧ j < h) ∧ a = w * j + i ∧ ((i + 1 < w ∧ b = a + 1 ∧ JR B p i j) ∨ (j + 1 < h ∧ b = a + w ∧ JD B p i j))
theorem cell_r {w h i j : Int} (hi : 0 ≤ i ∧ i < w) (hj : 0 ≤ j ∧ j < h) : 0 ≤ w * j + i ∧ w * j + i < w * h := by
  have := mul_lt hi.1 hi.2 hj.1 hj.2
  have := Int.mul_nonneg (show 0 ≤ w by omega) hj.1
  omega
theorem Edg.r {B : rhM} {p w h a b : Int} (e : Edg B p w h a b) : (0 ≤ a ∧ a < w * h) ∧ (0 ≤ b ∧ b < w * h) ∧ a < b := by
  obtain ⟨i, j, r, ha, q⟩ := e
  have r1 := cell_r (w := w) (h := h) (i := i) (j := j) ⟨r.1, r.2.1⟩ ⟨r.2.2.1, r.2.2.2⟩
  rw [← ha] at r1
  rcases q with ⟨q1, q2, -⟩ | ⟨q1, q2, -⟩
  · have r2 := cell_r (w := w) (h := h) (i := i + 1) (j := j) ⟨by omega, by omega⟩ ⟨r.2.2.1, r.2.2.2⟩
    exact ⟨r1, by omega, by omega⟩
  · have r2 := cell_r (w := w) (h := h) (i := i) (j := j + 1) ⟨r.1, r.2.1⟩ ⟨by omega, by omega⟩
    rw [Int.mul_add, Int.mul_one] at r2
    exact ⟨r1, by omega, by omega⟩
def Mlb (B : rhM) (n : Int) (f : Int → Int) : Prop := ∀ c, 0 ≤ c → c < n → B 173 c = f c
/-- one optional join on the model's side -/
theorem m_jn (hm : rh_ms wm) {B0 B1 : rhM} {n a b : Int} {f : Int → Int} {E : Int → Int → Prop} (hn : (B0 0 218 - 1) * (B0 0 219 - 1) = n) (hn2 : 0 ≤ n ∧ n ≤ 6144) (L : Lbl E n f) (ml : Mlb B1 n f) (gB : frx (fun c _ => c = 173) B0 B1) (ha : 0 ≤ a ∧ a < n) (hb : 0 ≤ b ∧ b < n) (e : E a b) : ∃ B', eC wm YX32_join 1 [(2, 0), (0, a), (0, b)] B1 0 B' ∧ Mlb B' n (jnl f a b) ∧ Lbl E n (jnl f a b) ∧ frx (fun c _ => c = 173) B0 B' := by
  obtain ⟨B', K, h, g⟩ := c_joinM hm (B := B1) (n := n) (a := a) (b := b) (by rw [gB 0 218 (by omega), gB 0 219 (by omega)]; exact hn) hn2 ha hb
  exact ⟨B', K, fun c c0 c1 => by rw [h c c0 c1]; exact jnl_g ml ha hb c c0 c1, L.jn ha hb (.inl e), gB.tr g⟩
theorem m_cell (hm : rh_ms wm) {A B0 B1 : rhM} (R : Rpg A B0) {p w h i j n : Int} {f : Int → Int} (hp : 0 ≤ p ∧ p < 8) (U : Rul A B0) (hw : B0 0 219 = w + 1) (hh' : B0 0 218 = h + 1) (hi : 0 ≤ i ∧ i < w) (hj : 0 ≤ j ∧ j < h) (hn : w * h = n) (hn2 : n ≤ 6144) (L : Lbl (Edg B0 p w h) n f) (ml : Mlb B1 n f) (gB : frx (fun c _ => c = 173) B0 B1) : ∃ B' f', eC wm YX32_joinCells 3 [(2, 0), (0, p), (0, i), (0, j)] B1 0 B' ∧ Mlb B' n f' ∧ Lbl (Edg B0 p w h) n f' ∧ (∀ x y, f x = f y → f' x = f' y) ∧ (i + 1 < w → JR B0 p i j → f' (w * j + i) = f' (w * j + i + 1)) ∧ (j + 1 < h → JD B0 p i j → f' (w * j + i) = f' (w * j + i + w)) ∧ frx (fun c _ => c = 173) B0 B' := by
  obtain ⟨⟨-, u2, u3⟩, -, v2, v3⟩ := U
  rw [hh'] at u2 u3
  rw [hw] at v2 v3
  have rj := u3 j hj.1 (by omega)
  have rj1 := u3 (j + 1) (by omega) (by omega)
  have ri := v3 i hi.1 (by omega)
  have ri1 := v3 (i + 1) (by omega) (by omega)
  have cr := cell_r hi hj
  rw [hn] at cr
  have hn3 : (B0 0 218 - 1) * (B0 0 219 - 1) = n := by rw [hw, hh', ← hn, Int.mul_comm]; congr 1 <;> omega
  obtain ⟨cell, hc⟩ : ∃ cell, cell = w * j + i := ⟨_, rfl⟩
  rw [← hc] at cr ⊢
  -- the second join (under one another), from any labels
  have tail : ∀ (B2 : rhM) (f2 : Int → Int), Lbl (Edg B0 p w h) n f2 → Mlb B2 n f2 → frx (fun c _ => c = 173) B0 B2 → ∃ B' f', Mlb B' n f' ∧ Lbl (Edg B0 p w h) n f' ∧ (∀ x y, f2 x = f2 y → f' x = f' y) ∧ (j + 1 < h → JD B0 p i j → f' cell = f' (cell + w)) ∧ frx (fun c _ => c = 173) B0 B' ∧ (j + 1 < h → ∀ P : Int → rhM → Prop, P 0 B' → rh1 wm YX32_joinCells 3 175 [(0, 2, 0), (1, 0, p), (2, 0, i), (3, 0, j), (4, 0, w), (5, 0, cell), (6, 0, 0), (7, 0, B0 171 (i + 1) - B0 172 i - 1), (8, 0, B0 172 i + 1)] [] B2 P) ∧ (¬ j + 1 < h → B' = B2) := by
    intro B2 f2 L2 ml2 gB2
    by_cases c : j + 1 < h
    case neg => exact ⟨B2, f2, ml2, L2, fun x y z => z, fun z => absurd z c, gB2, fun z => absurd z c, fun _ => rfl⟩
    have R2 : Rpg A B2 := R.fx (F := fun _ _ => False) frx.rf gB2 (fun p a j _ _ hf => hf.elim) (fun a j hf => by omega)
    have en : ∀ c k, c ≠ 173 → B2 c k = B0 c k := fun c k h => gB2 c k h
    have E := m_cnt0 hm R2 (p := p) (i := i) (j := j) (w4 := w) (cell := cell) (x7 := B0 171 (i + 1) - B0 172 i - 1) (s := B0 172 i + 1) (t := B0 171 (i + 1)) (fr := B0 169 (j + 1)) (la := B0 170 (j + 1)) hp ⟨by omega, by omega⟩ ⟨by omega, by omega⟩ (en _ _ (by decide)) (en _ _ (by decide)) (en _ _ (by decide)) ⟨by omega, by omega, by omega⟩ ⟨by omega, by omega, by omega, by omega⟩ (B0 171 (i + 1) - (B0 172 i + 1)).toNat 0 (by omega)
    rw [show B0 172 i + 1 + ((0 : Nat) : Int) = B0 172 i + 1 by omega] at E
    have jd : (2 * cnk (fun k => Ikw B2 p 0 (B0 169 (j + 1)) (B0 170 (j + 1) + 1) k) (B0 172 i + 1) (B0 171 (i + 1) - (B0 172 i + 1)).toNat < B0 171 (i + 1) - B0 172 i - 1) ↔ JD B0 p i j := by
      unfold JD
      rw [← Jnd_f gB2 (fun c j c0 c1 => by omega)]
      unfold Jnd
      rw [show B0 171 (i + 1) - B0 172 i - 1 = B0 171 (i + 1) - (B0 172 i + 1) by omega]
    have cb := cnk_b (Q := fun k => Ikw B2 p 0 (B0 169 (j + 1)) (B0 170 (j + 1) + 1) k) (s := B0 172 i + 1) (B0 171 (i + 1) - (B0 172 i + 1)).toNat
    obtain ⟨q, hq⟩ : ∃ q, q = cnk (fun k => Ikw B2 p 0 (B0 169 (j + 1)) (B0 170 (j + 1) + 1) k) (B0 172 i + 1) (B0 171 (i + 1) - (B0 172 i + 1)).toNat := ⟨_, rfl⟩
    rw [← hq] at E jd cb
    by_cases d : JD B0 p i j
    · have e1 : Edg B0 p w h cell (cell + w) := ⟨i, j, ⟨hi.1, hi.2, hj.1, hj.2⟩, hc, .inr ⟨c, rfl, d⟩⟩
      have er := e1.r
      rw [hn] at er
      obtain ⟨B', K, m1, m2, m3⟩ := m_jn hm hn3 ⟨by omega, by omega⟩ L2 ml2 gB2 cr er.2.1 e1
      refine ⟨B', jnl f2 cell (cell + w), m1, m2, fun x y z => jnl_k z, fun _ _ => jnl_e, m3, fun _ P HP => rh1.s E ?_, fun z => absurd c z⟩
      refine rh1.of (rX32_joinCells_175 hm _ _ _ _ _ _ _ _ _ ?_)
      rw [en 171 _ (by decide)]
      refine ⟨⟨by omega, by omega⟩, fun z => by omega, fun _ => ⟨⟨by omega, by omega⟩, fun _ => ?_, fun z => absurd (jd.mpr d) z⟩⟩
      refine rh1.s (eS.fx 0 (x := cell + w) rfl ⟨by omega, by omega⟩ rfl) ?_
      refine rh1.s (vX32_joinCells_248 hm K (LE0 rfl)) ?_
      refine rh1.of (rX32_joinCells_251 hm _ ?_)
      exact HP
    · refine ⟨B2, f2, ml2, L2, fun x y z => z, fun _ z => absurd z d, gB2, fun _ P HP => rh1.s E ?_, fun _ => rfl⟩
      refine rh1.of (rX32_joinCells_175 hm _ _ _ _ _ _ _ _ _ ?_)
      rw [en 171 _ (by decide)]
      exact ⟨⟨by omega, by omega⟩, fun z => by omega, fun _ => ⟨⟨by omega, by omega⟩, fun z => absurd (jd.mp z) d, fun _ => HP⟩⟩
  have en : ∀ c k, c ≠ 173 → B1 c k = B0 c k := fun c k h => gB c k h
  have cm : j * (w + 1 - 1) + i = cell := by rw [hc, show w + 1 - 1 = w by omega, Int.mul_comm]
  by_cases c : i + 1 < w
  case neg =>
    obtain ⟨B', f', t1, t2, t3, t4, t5, t6, t7⟩ := tail B1 f L ml gB
    refine ⟨B', f', eC.of1 (rC1.of (by decide) (LE0 rfl) ?_), t1, t2, t3, fun z => absurd z c, t4, t5⟩
    refine rh1.of (rX32_joinCells_0 hm _ _ _ _ ?_)
    rw [en 0 219 (by decide), en 0 218 (by decide), hw, hh', cm, en 171 _ (by decide), en 172 _ (by decide)]
    refine ⟨⟨by omega, by omega⟩, ?_⟩
    (intro zq hzq; replace hzq := hzq.symm; subst hzq)
    refine ⟨⟨by omega, by omega⟩, ⟨by omega, by omega⟩, fun z => by omega, fun _ => ⟨⟨by omega, by omega⟩, ⟨by omega, by omega⟩, fun z => ⟨⟨by omega, by omega⟩, ⟨by omega, by omega⟩, ?_⟩, fun z => ?_⟩⟩
    · (intro zq hzq; replace hzq := hzq.symm; subst hzq)
      refine ⟨⟨by omega, by omega⟩, ⟨by omega, by omega⟩, ⟨by omega, by omega⟩, ?_⟩
      rw [show w + 1 - 1 = w by omega]
      exact t6 (by omega) _ ⟨rfl, rfl⟩
    · exact ⟨rfl, (t7 (by omega)).symm⟩
  -- beside one another
  have R1 : Rpg A B1 := R.fx (F := fun _ _ => False) frx.rf gB (fun p a j _ _ hf => hf.elim) (fun a j hf => by omega)
  have E := m_cnt1 hm R1 (p := p) (i := i) (j := j) (w4 := w) (cell := cell) (x7 := B0 169 (j + 1) - B0 170 j - 1) (s := B0 170 j + 1) (t := B0 169 (j + 1)) (fr := B0 171 (i + 1)) (la := B0 172 (i + 1)) hp ⟨by omega, by omega⟩ ⟨by omega, by omega⟩ (en _ _ (by decide)) (en _ _ (by decide)) (en _ _ (by decide)) ⟨by omega, by omega, by omega⟩ ⟨by omega, by omega, by omega, by omega⟩ (B0 169 (j + 1) - (B0 170 j + 1)).toNat 0 (by omega)
  rw [show B0 170 j + 1 + ((0 : Nat) : Int) = B0 170 j + 1 by omega] at E
  have jr : (2 * cnk (fun k => Ikw B1 p 1 (B0 171 (i + 1)) (B0 172 (i + 1) + 1) k) (B0 170 j + 1) (B0 169 (j + 1) - (B0 170 j + 1)).toNat < B0 169 (j + 1) - B0 170 j - 1) ↔ JR B0 p i j := by
    unfold JR
    rw [← Jnd_f gB (fun c j c0 c1 => by omega)]
    unfold Jnd
    rw [show B0 169 (j + 1) - B0 170 j - 1 = B0 169 (j + 1) - (B0 170 j + 1) by omega]
  have cb := cnk_b (Q := fun k => Ikw B1 p 1 (B0 171 (i + 1)) (B0 172 (i + 1) + 1) k) (s := B0 170 j + 1) (B0 169 (j + 1) - (B0 170 j + 1)).toNat
  obtain ⟨q, hq⟩ : ∃ q, q = cnk (fun k => Ikw B1 p 1 (B0 171 (i + 1)) (B0 172 (i + 1) + 1) k) (B0 170 j + 1) (B0 169 (j + 1) - (B0 170 j + 1)).toNat := ⟨_, rfl⟩
  rw [← hq] at E jr cb
  have start : ∀ P : Int → rhM → Prop, rh1 wm YX32_joinCells 3 56 [(0, 2, 0), (1, 0, p), (2, 0, i), (3, 0, j), (4, 0, w), (5, 0, cell), (6, 0, q), (7, 0, B0 169 (j + 1) - B0 170 j - 1), (8, 0, B0 170 j + 1 + ((B0 169 (j + 1) - (B0 170 j + 1)).toNat : Nat))] [] B1 P → rh1 wm YX32_joinCells 3 0 [(0, 2, 0), (1, 0, p), (2, 0, i), (3, 0, j)] [] B1 P := fun P HP => by
    refine rh1.of (rX32_joinCells_0 hm _ _ _ _ ?_)
    rw [en 0 219 (by decide), en 0 218 (by decide), hw, hh', cm, en 169 _ (by decide), en 170 _ (by decide)]
    refine ⟨⟨by omega, by omega⟩, ?_⟩
    (intro zq hzq; replace hzq := hzq.symm; subst hzq)
    refine ⟨⟨by omega, by omega⟩, ⟨by omega, by omega⟩, fun _ => ⟨⟨by omega, by omega⟩, ⟨by omega, by omega⟩, ?_⟩, fun z => by omega⟩
    (intro zq hzq; replace hzq := hzq.symm; subst hzq)
    refine ⟨⟨by omega, by omega⟩, ⟨by omega, by omega⟩, ⟨by omega, by omega⟩, ?_⟩
    rw [show w + 1 - 1 = w by omega]
    exact rh1.s E HP
  by_cases d : JR B0 p i j
  · have e1 : Edg B0 p w h cell (cell + 1) := ⟨i, j, ⟨hi.1, hi.2, hj.1, hj.2⟩, hc, .inl ⟨c, rfl, d⟩⟩
    have er := e1.r
    rw [hn] at er
    obtain ⟨B2, K, m1, m2, m3⟩ := m_jn hm hn3 ⟨by omega, by omega⟩ L ml gB cr er.2.1 e1
    obtain ⟨B', f', t1, t2, t3, t4, t5, t6, t7⟩ := tail B2 (jnl f cell (cell + 1)) m2 m1 m3
    have en2 : ∀ c k, c ≠ 173 → B2 c k = B0 c k := fun c k h => m3 c k h
    refine ⟨B', f', eC.of1 (rC1.of (by decide) (LE0 rfl) (start _ ?_)), t1, t2, fun x y z => t3 x y (jnl_k z), fun _ _ => t3 _ _ jnl_e, t4, t5⟩
    refine rh1.of (rX32_joinCells_56 hm _ _ _ _ _ _ _ _ _ ?_)
    rw [en 169 _ (by decide)]
    refine ⟨⟨by omega, by omega⟩, fun z => by omega, fun _ => ⟨⟨by omega, by omega⟩, fun _ => ?_, fun z => absurd (jr.mpr d) z⟩⟩
    refine rh1.s (eS.fx 0 (x := cell + 1) rfl ⟨by omega, by omega⟩ rfl) ?_
    refine rh1.s (vX32_joinCells_128 hm K (LE0 rfl)) ?_
    refine rh1.of (rX32_joinCells_131 hm _ _ _ _ _ _ ?_)
    rw [en2 0 218 (by decide), hh', en2 171 _ (by decide), en2 172 _ (by decide)]
    refine ⟨⟨by omega, by omega⟩, ⟨by omega, by omega⟩, fun z => ⟨⟨by omega, by omega⟩, ⟨by omega, by omega⟩, ?_⟩, fun z => ?_⟩
    · (intro zq hzq; replace hzq := hzq.symm; subst hzq)
      exact ⟨⟨by omega, by omega⟩, ⟨by omega, by omega⟩, ⟨by omega, by omega⟩, t6 (by omega) _ ⟨rfl, rfl⟩⟩
    · exact ⟨rfl, (t7 (by omega)).symm⟩
  · obtain ⟨B', f', t1, t2, t3, t4, t5, t6, t7⟩ := tail B1 f L ml gB
    refine ⟨B', f', eC.of1 (rC1.of (by decide) (LE0 rfl) (start _ ?_)), t1, t2, t3, fun _ z => absurd z d, t4, t5⟩
    refine rh1.of (rX32_joinCells_56 hm _ _ _ _ _ _ _ _ _ ?_)
    rw [en 169 _ (by decide), en 0 218 (by decide), hh', en 171 _ (by decide), en 172 i (by decide)]
    refine ⟨⟨by omega, by omega⟩, fun z => by omega, fun _ => ⟨⟨by omega, by omega⟩, fun z => absurd (jr.mp z) d, fun _ => ⟨⟨by omega, by omega⟩, ⟨by omega, by omega⟩, fun z => ⟨⟨by omega, by omega⟩, ⟨by omega, by omega⟩, ?_⟩, fun z => ?_⟩⟩⟩
    · (intro zq hzq; replace hzq := hzq.symm; subst hzq)
      exact ⟨⟨by omega, by omega⟩, ⟨by omega, by omega⟩, ⟨by omega, by omega⟩, t6 (by omega) _ ⟨rfl, rfl⟩⟩
    · exact ⟨rfl, (t7 (by omega)).symm⟩
/-- all cells, the model's side -/
theorem m_cells (hm : rh_ms wm) {A B0 : rhM} (R : Rpg A B0) {p w h n : Int} (hp : 0 ≤ p ∧ p < 8) (U : Rul A B0) (hw : B0 0 219 = w + 1) (hh' : B0 0 218 = h + 1) (hwh : 1 ≤ w ∧ 1 ≤ h) (hn : w * h = n) (hn2 : n ≤ 6144) : ∀ (u : Nat) (k : Int) (B1 : rhM) (f : Int → Int), k + u = n → 0 ≤ k → Lbl (Edg B0 p w h) n f → Mlb B1 n f → (∀ a b, Edg B0 p w h a b → a < k → f a = f b) → frx (fun c _ => c = 173) B0 B1 → ∃ B' f', eS wm YX32_ruled 4 266 [(0, 2, 0), (1, 0, p), (4, 0, w), (5, 0, h), (6, 0, k)] [] B1 266 [(0, 2, 0), (1, 0, p), (4, 0, w), (5, 0, h), (6, 0, n)] [] B' ∧ Lbl (Edg B0 p w h) n f' ∧ Mlb B' n f' ∧ (∀ a b, Edg B0 p w h a b → f' a = f' b) ∧ frx (fun c _ => c = 173) B0 B' := by
  intro u
  induction u with
  | zero =>
    intro k B1 f hk k0 L ml D gB
    have e : k = n := by omega
    rw [e]
    exact ⟨B1, f, eS.rf, L, ml, fun a b z => D a b z (by have := z.r; omega), gB⟩
  | succ u ih =>
    intro k B1 f hk k0 L ml D gB
    have i0 := Int.emod_nonneg k (show w ≠ 0 by omega)
    have i1 := Int.emod_lt_of_pos k (show 0 < w by omega)
    have j0 := Int.ediv_nonneg k0 (show 0 ≤ w by omega)
    have j1 : k / w < h := Int.ediv_lt_of_lt_mul (by omega) (by rw [Int.mul_comm]; omega)
    have dm : w * (k / w) + k % w = k := Int.mul_ediv_add_emod k w
    obtain ⟨B2, f2, K, t1, t2, t3, t4, t5, t6⟩ := m_cell hm R (i := k % w) (j := k / w) hp U hw hh' ⟨i0, i1⟩ ⟨j0, j1⟩ hn hn2 L ml gB
    rw [dm] at t4 t5
    obtain ⟨B', f', E, r⟩ := ih (k + 1) B2 f2 (by omega) (by omega) t2 t1 (fun a b z ak => by
      by_cases e : a = k
      · obtain ⟨i, j, r, ha, q⟩ := id z
        have ei : k % w = i := by rw [← e, ha, Int.add_comm, Int.add_mul_emod_self_left]; exact Int.emod_eq_of_lt r.1 r.2.1
        have ej : k / w = j := by rw [← e, ha, Int.add_comm, Int.add_mul_ediv_left _ _ (show w ≠ 0 by omega), Int.ediv_eq_zero_of_lt r.1 r.2.1]; omega
        rw [e]
        rcases q with ⟨q1, q2, q3⟩ | ⟨q1, q2, q3⟩
        · rw [q2, e]; exact t4 (by rw [ei]; exact q1) (by rw [ei, ej]; exact q3)
        · rw [q2, e]; exact t5 (by rw [ej]; exact q1) (by rw [ei, ej]; exact q3)
      · exact t3 a b (D a b z (by omega))) t6
    refine ⟨B', f', eS.of (fun P HP => ?_), r⟩
    refine rh1.of (rX32_ruled_266 hm _ _ _ _ _ ?_)
    rw [hn]
    refine ⟨⟨by omega, by omega⟩, fun _ => ⟨⟨by omega, by omega⟩, ⟨by omega, by omega⟩, rh1.s (vX32_ruled_288 hm K (LE0 rfl)) ?_⟩, fun z => by omega⟩
    refine rh1.of (rX32_ruled_291 hm _ _ _ _ _ ?_)
    exact ⟨⟨by omega, by omega⟩, rh1.s E HP⟩
/-- all cells, the house's side -/
theorem h_cells (hh : rh_hs wh) {A B0 : rhM} (R : Rpg A B0) {p w h n : Int} (hp : 0 ≤ p ∧ p < 8) (U : Rul A B0) (hw : B0 0 219 = w + 1) (hh' : B0 0 218 = h + 1) (hwh : 1 ≤ w ∧ 1 ≤ h) (hn : w * h = n) (hn2 : n ≤ 6144) : ∀ (u : Nat) (k : Int) (A1 : rhM) (f : Int → Int), k + u = n → 0 ≤ k → Lbl (Edg B0 p w h) n f → Frs A1 n f → (∀ a b, Edg B0 p w h a b → b < k → f a = f b) → frx (fun c _ => c = 209) A A1 → ∃ A' f', eS wh YX24_find 5 55 [(0, 2, 205), (1, 2, 251 + 39 * p), (3, 0, w), (4, 0, n), (5, 0, k)] [] A1 55 [(0, 2, 205), (1, 2, 251 + 39 * p), (3, 0, w), (4, 0, n), (5, 0, n)] [] A' ∧ Lbl (Edg B0 p w h) n f' ∧ Frs A' n f' ∧ (∀ a b, Edg B0 p w h a b → f' a = f' b) ∧ frx (fun c _ => c = 209) A A' := by
  have hb := hs_pg hh hp.1 hp.2
  obtain ⟨⟨-, u2, u3⟩, -, v2, v3⟩ := U
  rw [hh'] at u2 u3
  rw [hw] at v2 v3
  intro u
  induction u with
  | zero =>
    intro k A1 f hk k0 L F D fA
    have e : k = n := by omega
    rw [e]
    exact ⟨A1, f, eS.rf, L, F, fun a b z => D a b z (by have := z.r; omega), fA⟩
  | succ u ih =>
    intro k A1 f hk k0 L F D fA
    have i0 := Int.emod_nonneg k (show w ≠ 0 by omega)
    have i1 := Int.emod_lt_of_pos k (show 0 < w by omega)
    have j0 := Int.ediv_nonneg k0 (show 0 ≤ w by omega)
    have j1 : k / w < h := Int.ediv_lt_of_lt_mul (by omega) (by rw [Int.mul_comm]; omega)
    have dm : w * (k / w) + k % w = k := Int.mul_ediv_add_emod k w
    obtain ⟨i, hi⟩ : ∃ i, i = k % w := ⟨_, rfl⟩
    obtain ⟨j, hj⟩ : ∃ j, j = k / w := ⟨_, rfl⟩
    rw [← hi] at i0 i1 dm
    rw [← hj] at j0 j1 dm
    have rj := u3 j j0 (by omega)
    have rj1 := u3 (j + 1) (by omega) (by omega)
    have ri := v3 i i0 (by omega)
    have ri1 := v3 (i + 1) (by omega) (by omega)
    rw [show 128 * 0 + j = j by omega] at rj
    rw [show 128 * 0 + (j + 1) = j + 1 by omega] at rj1
    rw [show 128 * 1 + i = 128 + i by omega] at ri
    rw [show 128 * 1 + (i + 1) = 128 + i + 1 by omega] at ri1
    -- under one another, from any labels
    have tail : ∀ (A2 : rhM) (f2 : Int → Int), Lbl (Edg B0 p w h) n f2 → Frs A2 n f2 → frx (fun c _ => c = 209) A A2 → ∃ A' f', Lbl (Edg B0 p w h) n f' ∧ Frs A' n f' ∧ (∀ x y, f2 x = f2 y → f' x = f' y) ∧ (0 < j → JD B0 p i (j - 1) → f' (k - w) = f' k) ∧ frx (fun c _ => c = 209) A A' ∧ (0 < j → ∀ P : Int → rhM → Prop, rh1 wh YX24_find 5 55 [(0, 2, 205), (1, 2, 251 + 39 * p), (3, 0, w), (4, 0, n), (5, 0, k + 1)] [] A' P → rh1 wh YX24_find 5 154 [(0, 2, 205), (1, 2, 251 + 39 * p), (3, 0, w), (4, 0, n), (5, 0, k)] [(0, A2 207 (128 + i + 1)), (3, A2 208 (128 + i) + 1), (0, j), (0, 0), (2, 251 + 39 * p), (2, 205)] A2 P) ∧ (¬ 0 < j → A' = A2) := by
      intro A2 f2 L2 F2 fA2
      by_cases c : 0 < j
      case neg => exact ⟨A2, f2, L2, F2, fun x y z => z, fun z => absurd z c, fA2, fun z => absurd z c, fun _ => rfl⟩
      have R2 : Rpg A2 B0 := R.fx (G := fun _ _ => False) fA2 frx.rf (fun p a j p0 p1 hf => by omega) (fun a j hf => hf.elim)
      have ru := u3 j j0 (by omega)
      have e1 : A2 207 (128 * 0 + j) = B0 169 j := by rw [fA2 207 _ (by omega)]; exact ru.1.1
      have e2 : A2 208 (128 * 0 + j) = B0 170 j := by rw [fA2 208 _ (by omega)]; exact ru.1.2
      have e3 : A2 207 (128 + i + 1) = B0 171 (i + 1) := by rw [fA2 207 _ (by omega)]; exact ri1.1.1
      have e4 : A2 208 (128 + i) = B0 172 i := by rw [fA2 208 _ (by omega)]; exact ri.1.2
      have K := c_areJ hh R2 (p := p) (way := 0) (rule := j) (s := B0 172 i + 1) (t := B0 171 (i + 1)) hp ⟨by omega, by omega⟩ e1 e2 ⟨by omega, by omega, by omega⟩ ⟨by omega, by omega, by omega, by omega⟩
      have jd : Jnd B0 p 0 (B0 169 j) (B0 170 j) (B0 172 i + 1) (B0 171 (i + 1)) = JD B0 p i (j - 1) := by
        unfold JD
        rw [show j - 1 + 1 = j by omega]
      rw [jd] at K
      by_cases d : JD B0 p i (j - 1)
      · have kw : w * (j - 1) + i = k - w := by rw [Int.mul_sub, Int.mul_one]; omega
        have eg : Edg B0 p w h (k - w) k := ⟨i, j - 1, ⟨i0, i1, by omega, by omega⟩, kw.symm, .inr ⟨by omega, by omega, d⟩⟩
        have er := eg.r
        rw [hn] at er
        obtain ⟨A', KJ, m1, m2⟩ := c_joinH hh F2 hn2 (a := k) (b := k - w) er.2.1 er.1
        refine ⟨A', jnl f2 k (k - w), L2.jn er.2.1 er.1 (.inr eg), m1, fun x y z => jnl_k z, fun _ _ => jnl_e.symm, fA2.tr m2, fun _ P HP => ?_, fun z => absurd c z⟩
        rw [e3, e4]
        refine rh1.s (eS.fx 1 (x := B0 172 i + 1) rfl ⟨by omega, by omega⟩ rfl) ?_
        refine rh1.s (vX24_find_154 hh K (LE0 rfl)) ?_
        refine rh1.of (rX24_find_157 hh _ _ _ _ _ _ hb ?_)
        rw [rh_if_t d]
        refine ⟨fun _ => ?_, fun z => absurd (show (1 : Int) ≠ 0 by decide) z⟩
        refine rh1.s (eS.fx 0 (x := k - w) rfl ⟨by omega, by omega⟩ rfl) ?_
        refine rh1.s (vX24_find_167 hh KJ (LE0 rfl)) ?_
        refine rh1.of (rX24_find_170 hh _ _ _ _ _ hb ?_)
        exact ⟨⟨by omega, by omega⟩, HP⟩
      · refine ⟨A2, f2, L2, F2, fun x y z => z, fun _ z => absurd z d, fA2, fun _ P HP => ?_, fun _ => rfl⟩
        rw [e3, e4]
        refine rh1.s (eS.fx 1 (x := B0 172 i + 1) rfl ⟨by omega, by omega⟩ rfl) ?_
        refine rh1.s (vX24_find_154 hh K (LE0 rfl)) ?_
        refine rh1.of (rX24_find_157 hh _ _ _ _ _ _ hb ?_)
        rw [rh_if_f d]
        exact ⟨fun z => absurd rfl z, fun _ => ⟨⟨by omega, by omega⟩, HP⟩⟩
    have fin : ∀ (A' : rhM) (f' : Int → Int), Lbl (Edg B0 p w h) n f' → Frs A' n f' → (∀ x y, f x = f y → f' x = f' y) → (0 < i → JR B0 p (i - 1) j → f' (k - 1) = f' k) → (0 < j → JD B0 p i (j - 1) → f' (k - w) = f' k) → frx (fun c _ => c = 209) A A' → (∀ P : Int → rhM → Prop, rh1 wh YX24_find 5 55 [(0, 2, 205), (1, 2, 251 + 39 * p), (3, 0, w), (4, 0, n), (5, 0, k + 1)] [] A' P → rh1 wh YX24_find 5 55 [(0, 2, 205), (1, 2, 251 + 39 * p), (3, 0, w), (4, 0, n), (5, 0, k)] [] A1 P) → ∃ A' f', eS wh YX24_find 5 55 [(0, 2, 205), (1, 2, 251 + 39 * p), (3, 0, w), (4, 0, n), (5, 0, k)] [] A1 55 [(0, 2, 205), (1, 2, 251 + 39 * p), (3, 0, w), (4, 0, n), (5, 0, n)] [] A' ∧ Lbl (Edg B0 p w h) n f' ∧ Frs A' n f' ∧ (∀ a b, Edg B0 p w h a b → f' a = f' b) ∧ frx (fun c _ => c = 209) A A' := by
      intro A' f' L' F' s1 s2 s3 fA' H
      obtain ⟨A3, f3, E, r⟩ := ih (k + 1) A' f' (by omega) (by omega) L' F' (fun a b z bk => by
        by_cases e : b = k
        · obtain ⟨i', j', r, ha, q⟩ := id z
          rcases q with ⟨q1, q2, q3⟩ | ⟨q1, q2, q3⟩
          · have hk' : k = w * j' + (i' + 1) := by omega
            have ei : i = i' + 1 := by rw [hi, hk', Int.add_comm, Int.add_mul_emod_self_left]; exact Int.emod_eq_of_lt (by omega) q1
            have ej : j = j' := by rw [hj, hk', Int.add_comm, Int.add_mul_ediv_left _ _ (show w ≠ 0 by omega), Int.ediv_eq_zero_of_lt (by omega) q1]; omega
            have := s2 (by omega) (by rw [ei, ej, show i' + 1 - 1 = i' by omega]; exact q3)
            rw [e, show a = k - 1 by omega]; exact this
          · have hk' : k = w * (j' + 1) + i' := by rw [Int.mul_add, Int.mul_one]; omega
            have ei : i = i' := by rw [hi, hk', Int.add_comm, Int.add_mul_emod_self_left]; exact Int.emod_eq_of_lt r.1 r.2.1
            have ej : j = j' + 1 := by rw [hj, hk', Int.add_comm, Int.add_mul_ediv_left _ _ (show w ≠ 0 by omega), Int.ediv_eq_zero_of_lt r.1 r.2.1]; omega
            have := s3 (by omega) (by rw [ei, ej, show j' + 1 - 1 = j' by omega]; exact q3)
            rw [e, show a = k - w by omega]; exact this
        · exact s1 a b (D a b z (by omega))) fA'
      exact ⟨A3, f3, (eS.of (fun P HP => H P HP)).tr E, r⟩
    by_cases c : 0 < i
    case neg =>
      obtain ⟨A', f', t1, t2, t3, t4, t5, t6, t7⟩ := tail A1 f L F fA
      refine fin A' f' t1 t2 t3 (fun z => absurd z c) t4 t5 (fun P HP => ?_)
      refine rh1.of (rX24_find_55 hh _ _ _ _ _ hb ?_)
      rw [← hi, ← hj]
      refine ⟨fun _ => ⟨⟨by omega, by omega⟩, ⟨by omega, by omega⟩, fun z => absurd z c, fun _ => ⟨fun z => ⟨⟨by omega, by omega⟩, ⟨by omega, by omega⟩, t6 z P HP⟩, fun z => ⟨⟨by omega, by omega⟩, ?_⟩⟩⟩, fun z => by omega⟩
      rw [t7 z] at HP
      exact HP
    have R1 : Rpg A1 B0 := R.fx (G := fun _ _ => False) fA frx.rf (fun p a j p0 p1 hf => by omega) (fun a j hf => hf.elim)
    have ru := v3 i i0 (by omega)
    have e1 : A1 207 (128 * 1 + i) = B0 171 i := by rw [fA 207 _ (by omega)]; exact ru.1.1
    have e2 : A1 208 (128 * 1 + i) = B0 172 i := by rw [fA 208 _ (by omega)]; exact ru.1.2
    have e3 : A1 207 (j + 1) = B0 169 (j + 1) := by rw [fA 207 _ (by omega)]; exact rj1.1.1
    have e4 : A1 208 j = B0 170 j := by rw [fA 208 _ (by omega)]; exact rj.1.2
    have K := c_areJ hh R1 (p := p) (way := 1) (rule := i) (s := B0 170 j + 1) (t := B0 169 (j + 1)) hp ⟨by omega, by omega⟩ e1 e2 ⟨by omega, by omega, by omega⟩ ⟨by omega, by omega, by omega, by omega⟩
    have jr : Jnd B0 p 1 (B0 171 i) (B0 172 i) (B0 170 j + 1) (B0 169 (j + 1)) = JR B0 p (i - 1) j := by
      unfold JR
      rw [show i - 1 + 1 = i by omega]
    rw [jr] at K
    have start : ∀ P : Int → rhM → Prop, rh1 wh YX24_find 5 105 [(0, 2, 205), (1, 2, 251 + 39 * p), (3, 0, w), (4, 0, n), (5, 0, k), (6, 0, i), (7, 0, j)] [(0, rh_if (JR B0 p (i - 1) j) 1 0)] A1 P → rh1 wh YX24_find 5 55 [(0, 2, 205), (1, 2, 251 + 39 * p), (3, 0, w), (4, 0, n), (5, 0, k)] [] A1 P := fun P HP => by
      refine rh1.of (rX24_find_55 hh _ _ _ _ _ hb ?_)
      rw [← hi, ← hj]
      refine ⟨fun _ => ⟨⟨by omega, by omega⟩, ⟨by omega, by omega⟩, fun _ => ⟨⟨by omega, by omega⟩, ⟨by omega, by omega⟩, ?_⟩, fun z => absurd c z⟩, fun z => by omega⟩
      rw [e3, e4]
      refine rh1.s (eS.fx 1 (x := B0 170 j + 1) rfl ⟨by omega, by omega⟩ rfl) ?_
      exact rh1.s (vX24_find_102 hh K (LE0 rfl)) HP
    by_cases d : JR B0 p (i - 1) j
    · have eg : Edg B0 p w h (k - 1) k := ⟨i - 1, j, ⟨by omega, by omega, by omega, by omega⟩, by omega, .inl ⟨by omega, by omega, d⟩⟩
      have er := eg.r
      rw [hn] at er
      obtain ⟨A2, KJ, m1, m2⟩ := c_joinH hh F hn2 (a := k) (b := k - 1) er.2.1 er.1
      obtain ⟨A', f', t1, t2, t3, t4, t5, t6, t7⟩ := tail A2 (jnl f k (k - 1)) (L.jn er.2.1 er.1 (.inr eg)) m1 (fA.tr m2)
      refine fin A' f' t1 t2 (fun x y z => t3 x y (jnl_k z)) (fun _ _ => t3 _ _ jnl_e.symm) t4 t5 (fun P HP => start P ?_)
      refine rh1.of (rX24_find_105 hh _ _ _ _ _ _ _ _ hb ?_)
      rw [rh_if_t d]
      refine ⟨fun _ => ?_, fun z => absurd (show (1 : Int) ≠ 0 by decide) z⟩
      refine rh1.s (eS.fx 0 (x := k - 1) rfl ⟨by omega, by omega⟩ rfl) ?_
      refine rh1.s (vX24_find_115 hh KJ (LE0 rfl)) ?_
      refine rh1.of (rX24_find_118 hh _ _ _ _ _ _ _ hb ?_)
      refine ⟨fun z => ⟨⟨by omega, by omega⟩, ⟨by omega, by omega⟩, t6 z P HP⟩, fun z => ⟨⟨by omega, by omega⟩, ?_⟩⟩
      rw [t7 z] at HP
      exact HP
    · obtain ⟨A', f', t1, t2, t3, t4, t5, t6, t7⟩ := tail A1 f L F fA
      refine fin A' f' t1 t2 t3 (fun _ z => absurd z d) t4 t5 (fun P HP => start P ?_)
      refine rh1.of (rX24_find_105 hh _ _ _ _ _ _ _ _ hb ?_)
      rw [rh_if_f d]
      refine ⟨fun z => absurd rfl z, fun _ => ⟨fun z => ⟨⟨by omega, by omega⟩, ⟨by omega, by omega⟩, t6 z P HP⟩, fun z => ⟨⟨by omega, by omega⟩, ?_⟩⟩⟩
      rw [t7 z] at HP
      exact HP
end Joins
