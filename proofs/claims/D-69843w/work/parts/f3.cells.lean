/-! ===== LAYER 2: ruled pages: cells and their joining ===== -/
section Cells
variable {wh wm : rhW}
noncomputable def jnl (f : Int → Int) (a b : Int) : Int → Int := fun c => rh_if (f c = rh_if (f a < f b) (f b) (f a)) (rh_if (f b < f a) (f b) (f a)) (f c)
theorem jnl_s (f : Int → Int) (a b : Int) : ∃ mx mn, rh_if (f a < f b) (f b) (f a) = mx ∧ rh_if (f b < f a) (f b) (f a) = mn ∧ rh_if (f b < f a) (f a) (f b) = mx ∧ rh_if (f a < f b) (f a) (f b) = mn ∧ ((f a = mx ∧ f b = mn) ∨ (f a = mn ∧ f b = mx)) ∧ mn ≤ mx ∧ ∀ c, (f c = mx → jnl f a b c = mn) ∧ (f c ≠ mx → jnl f a b c = f c) := by
  have e : ∃ mx mn, rh_if (f a < f b) (f b) (f a) = mx ∧ rh_if (f b < f a) (f b) (f a) = mn ∧ rh_if (f b < f a) (f a) (f b) = mx ∧ rh_if (f a < f b) (f a) (f b) = mn ∧ ((f a = mx ∧ f b = mn) ∨ (f a = mn ∧ f b = mx)) ∧ mn ≤ mx := by
    by_cases q : f a < f b
    · have q2 : ¬ f b < f a := by omega
      exact ⟨f b, f a, rh_if_t q, rh_if_f q2, rh_if_f q2, rh_if_t q, .inr ⟨rfl, rfl⟩, by omega⟩
    · by_cases q2 : f b < f a
      · exact ⟨f a, f b, rh_if_f q, rh_if_t q2, rh_if_t q2, rh_if_f q, .inl ⟨rfl, rfl⟩, by omega⟩
      · have q3 : f a = f b := by omega
        exact ⟨f a, f a, rh_if_f q, rh_if_f q2, by rw [rh_if_f q2]; exact q3.symm, by rw [rh_if_f q]; exact q3.symm, .inl ⟨rfl, q3.symm⟩, by omega⟩
  obtain ⟨mx, mn, e1, e2, e3, e4, e5, e6⟩ := e
  refine ⟨mx, mn, e1, e2, e3, e4, e5, e6, fun c => ⟨fun h => ?_, fun h => ?_⟩⟩
  · unfold jnl
    rw [e1, e2, rh_if_t h]
  · unfold jnl
    rw [e1, rh_if_f h]
theorem jnl_k {f : Int → Int} {a b x y : Int} (h : f x = f y) : jnl f a b x = jnl f a b y := by
  unfold jnl
  rw [h]
theorem jnl_e {f : Int → Int} {a b : Int} : jnl f a b a = jnl f a b b := by
  obtain ⟨mx, mn, -, -, -, -, e5, e6, H⟩ := jnl_s f a b
  by_cases q : mx = mn
  · have : f a = f b := by omega
    exact jnl_k this
  · rcases e5 with ⟨h1, h2⟩ | ⟨h1, h2⟩
    · rw [(H a).1 h1, (H b).2 (by omega), h2]
    · rw [(H b).1 h2, (H a).2 (by omega), h1]
theorem jnl_g {f g : Int → Int} {a b n : Int} (h : ∀ c, 0 ≤ c → c < n → f c = g c) (ha : 0 ≤ a ∧ a < n) (hb : 0 ≤ b ∧ b < n) : ∀ c, 0 ≤ c → c < n → jnl f a b c = jnl g a b c := fun c c0 c1 => by
  unfold jnl
  rw [h c c0 c1, h a ha.1 ha.2, h b hb.1 hb.2]
/-- labels that go only along edges -/
def Lbl (E : Int → Int → Prop) (n : Int) (f : Int → Int) : Prop := ∀ c, 0 ≤ c → c < n → (0 ≤ f c ∧ f c ≤ c) ∧ ∀ g : Int → Int, (∀ a b, E a b → g a = g b) → g (f c) = g c
theorem Lbl.uq {E : Int → Int → Prop} {n : Int} {f f' : Int → Int} (L : Lbl E n f) (L' : Lbl E n f') (hf : ∀ a b, E a b → f a = f b) (hf' : ∀ a b, E a b → f' a = f' b) (c : Int) (c0 : 0 ≤ c) (c1 : c < n) : f c = f' c := by
  obtain ⟨b1, g1⟩ := L c c0 c1
  obtain ⟨b2, g2⟩ := L' c c0 c1
  have e1 := g1 f' hf'
  have e2 := g2 f hf
  have b3 := (L' (f c) (by omega) (by omega)).1
  have b4 := (L (f' c) (by omega) (by omega)).1
  omega
theorem Lbl.jn {E : Int → Int → Prop} {n : Int} {f : Int → Int} (L : Lbl E n f) {a b : Int} (ha : 0 ≤ a ∧ a < n) (hb : 0 ≤ b ∧ b < n) (e : E a b ∨ E b a) : Lbl E n (jnl f a b) := by
  obtain ⟨mx, mn, -, -, -, -, e5, e6, H⟩ := jnl_s f a b
  obtain ⟨ra, ga⟩ := L a ha.1 ha.2
  obtain ⟨rb, gb⟩ := L b hb.1 hb.2
  intro c c0 c1
  obtain ⟨rc, gc⟩ := L c c0 c1
  by_cases q : f c = mx
  · rw [(H c).1 q]
    refine ⟨by omega, fun g hg => ?_⟩
    have h1 := ga g hg
    have h2 := gb g hg
    have h3 := gc g hg
    have h4 : g a = g b := e.elim (hg a b) (fun z => (hg b a z).symm)
    rw [q] at h3
    rcases e5 with ⟨z1, z2⟩ | ⟨z1, z2⟩
    · rw [z1] at h1; rw [z2] at h2; omega
    · rw [z1] at h1; rw [z2] at h2; omega
  · rw [(H c).2 q]
    exact ⟨rc, gc⟩
/-- the house's forest -/
def Frs (A : rhM) (n : Int) (f : Int → Int) : Prop := ∀ c, 0 ≤ c → c < n → (0 ≤ A 209 c ∧ A 209 c ≤ c) ∧ f (A 209 c) = f c ∧ (A 209 c = c ↔ f c = c) ∧ f (f c) = f c ∧ 0 ≤ f c ∧ f c ≤ c
theorem Frs.jn {A : rhM} {n : Int} {f : Int → Int} (F : Frs A n f) {a b : Int} (ha : 0 ≤ a ∧ a < n) (hb : 0 ≤ b ∧ b < n) : Frs (rh_set A 209 (rh_if (f a < f b) (f b) (f a)) (rh_if (f b < f a) (f b) (f a))) n (jnl f a b) := by
  obtain ⟨mx, mn, e1, e2, -, -, e5, e6, H⟩ := jnl_s f a b
  rw [e1, e2]
  obtain ⟨-, -, -, a4, a5, a6⟩ := F a ha.1 ha.2
  obtain ⟨-, -, -, b4, b5, b6⟩ := F b hb.1 hb.2
  have fx : f mx = mx := by
    rcases e5 with ⟨z1, z2⟩ | ⟨z1, z2⟩
    · rw [← z1]; exact a4
    · rw [← z2]; exact b4
  have fn : f mn = mn := by
    rcases e5 with ⟨z1, z2⟩ | ⟨z1, z2⟩
    · rw [← z2]; exact b4
    · rw [← z1]; exact a4
  have mb : 0 ≤ mn ∧ mx < n := by omega
  by_cases q : mn = mx
  · have e : jnl f a b = f := funext (fun c => by
      by_cases z : f c = mx
      · rw [(H c).1 z, z, q]
      · exact (H c).2 z)
    rw [e, q, rh_set_e (((F mx (by omega) (by omega)).2.2.1).mpr fx)]
    exact F
  have jx : jnl f a b mx = mn := (H mx).1 fx
  have jm : jnl f a b mn = mn := by rw [(H mn).2 (by rw [fn]; exact q)]; exact fn
  intro c c0 c1
  obtain ⟨c2, c3, c4, c5, c6⟩ := F c c0 c1
  by_cases ec : c = mx
  · rw [ec, rh_set_s, jx, jm]
    exact ⟨by omega, rfl, ⟨fun z => absurd z q, fun z => absurd z q⟩, rfl, by omega⟩
  rw [rh_set_j ec]
  by_cases z : f c = mx
  · rw [(H c).1 z, (H (A 209 c)).1 (c3.trans z), jm]
    refine ⟨c2, rfl, ⟨fun y => ?_, fun y => ?_⟩, rfl, by omega, by omega⟩
    · exact absurd ((c4.mp y).symm.trans z) ec
    · rw [← y, fn] at z
      exact absurd z q
  · rw [(H c).2 z, (H (A 209 c)).2 (by rw [c3]; exact z)]
    refine ⟨c2, c3, c4, ?_, c6⟩
    rw [(H (f c)).2 (by rw [c5]; exact z), c5]
theorem c_root (hh : rh_hs wh) {A : rhM} {n : Int} {f : Int → Int} (F : Frs A n f) (hn : n ≤ 6144) {c : Int} (hc : 0 ≤ c ∧ c < n) : eC wh YX24_root 0 [(2, 205), (0, c)] A (f c) A := by
  refine eC.of1 (rC1.of (by decide) (LE0 rfl) ?_)
  have key : ∀ (u : Nat) (r : Int), r ≤ u → 0 ≤ r → r < n → f r = f c → rh1 wh YX24_root 0 2 [(0, 2, 205), (2, 0, r)] [] A (fun v M' => v = f c ∧ M' = A) := by
    intro u
    induction u with
    | zero =>
      intro r ru r0 r1 hr
      obtain ⟨c2, c3, c4, c5, c6⟩ := F r r0 r1
      refine rh1.of (rX24_root_2 hh _ _ ?_)
      refine ⟨⟨by omega, by omega⟩, fun z => absurd (show A 209 r = r by omega) z, fun z => ⟨?_, rfl⟩⟩
      rw [← hr]
      exact (c4.mp (by omega)).symm
    | succ u ih =>
      intro r ru r0 r1 hr
      obtain ⟨c2, c3, c4, c5, c6⟩ := F r r0 r1
      refine rh1.of (rX24_root_2 hh _ _ ?_)
      refine ⟨⟨by omega, by omega⟩, fun z => ⟨⟨by omega, by omega⟩, ih (A 209 r) (by omega) (by omega) (by omega) (c3.trans hr)⟩, fun z => ⟨?_, rfl⟩⟩
      rw [← hr]
      exact (c4.mp (Classical.byContradiction z)).symm
  refine rh1.of (rX24_root_0 hh _ _ ?_)
  exact key c.toNat c (by omega) hc.1 hc.2 rfl
theorem c_joinH (hh : rh_hs wh) {A : rhM} {n : Int} {f : Int → Int} (F : Frs A n f) (hn : n ≤ 6144) {a b : Int} (ha : 0 ≤ a ∧ a < n) (hb : 0 ≤ b ∧ b < n) : ∃ A', eC wh YX24_join 1 [(2, 205), (0, a), (0, b)] A 0 A' ∧ Frs A' n (jnl f a b) ∧ frx (fun c _ => c = 209) A A' := by
  refine ⟨_, eC.of1 (rC1.of (by decide) (LE0 rfl) ?_), F.jn ha hb, frx.rf.st rfl⟩
  obtain ⟨mx, mn, e1, e2, -, -, e5, e6, H⟩ := jnl_s f a b
  have fa := (F a ha.1 ha.2).2.2.2.2
  have fb := (F b hb.1 hb.2).2.2.2.2
  refine rh1.of (rX24_join_0 hh _ _ _ ?_)
  refine rh1.s (vX24_join_2 hh (c_root hh F hn ha) (LE0 rfl)) ?_
  refine rh1.of (rX24_join_5 hh _ _ _ ?_)
  refine rh1.s (vX24_join_8 hh (c_root hh F hn hb) (LE0 rfl)) ?_
  refine rh1.of (rX24_join_11 hh _ _ _ ?_)
  rw [e1]
  exact ⟨⟨by omega, by omega⟩, rfl, rfl⟩
theorem c_joinM (hm : rh_ms wm) {B : rhM} {n a b : Int} (hn : (B 0 218 - 1) * (B 0 219 - 1) = n) (hn2 : 0 ≤ n ∧ n ≤ 6144) (ha : 0 ≤ a ∧ a < n) (hb : 0 ≤ b ∧ b < n) : ∃ B', eC wm YX32_join 1 [(2, 0), (0, a), (0, b)] B 0 B' ∧ (∀ c, 0 ≤ c → c < n → B' 173 c = jnl (B 173) a b c) ∧ frx (fun c _ => c = 173) B B' := by
  obtain ⟨mx, mn, e1, e2, e3, e4, e5, e6, H⟩ := jnl_s (B 173) a b
  have start : ∀ P : Int → rhM → Prop, rh1 wm YX32_join 1 36 [(0, 2, 0), (3, 0, mn), (4, 0, mx), (5, 0, 0)] [] B P → rh1 wm YX32_join 1 0 [(0, 2, 0), (1, 0, a), (2, 0, b)] [] B P := fun P HP => by
    refine rh1.of (rX32_join_0 hm _ _ _ ?_)
    rw [e4, e3]
    refine ⟨⟨by omega, by omega⟩, ⟨by omega, by omega⟩, ?_⟩
    (intro zq hzq; replace hzq := hzq.symm; subst hzq)
    refine ⟨⟨by omega, by omega⟩, ⟨by omega, by omega⟩, ?_⟩
    (intro zq hzq; replace hzq := hzq.symm; subst hzq)
    exact HP
  by_cases q : mn = mx
  · refine ⟨B, eC.of1 (rC1.of (by decide) (LE0 rfl) (start _ ?_)), fun c c0 c1 => ?_, frx.rf⟩
    · refine rh1.of (rX32_join_36 hm _ _ _ _ ?_)
      rw [hn]
      exact ⟨⟨by omega, by omega⟩, fun z => absurd q z.2, fun _ => ⟨rfl, rfl⟩⟩
    · by_cases z : B 173 c = mx
      · rw [(H c).1 z, z, q]
      · rw [(H c).2 z]
  have key : ∀ (u : Nat) (k : Int) (X : rhM), k + u = n → 0 ≤ k → (∀ c, 0 ≤ c → c < k → X 173 c = jnl (B 173) a b c) → (∀ c, k ≤ c → X 173 c = B 173 c) → frx (fun c _ => c = 173) B X → ∃ X', (∀ P : Int → rhM → Prop, P 0 X' → rh1 wm YX32_join 1 36 [(0, 2, 0), (3, 0, mn), (4, 0, mx), (5, 0, k)] [] X P) ∧ (∀ c, 0 ≤ c → c < n → X' 173 c = jnl (B 173) a b c) ∧ frx (fun c _ => c = 173) B X' := by
    intro u
    induction u with
    | zero =>
      intro k X hk k0 h1 h2 f
      refine ⟨X, fun P HP => ?_, fun c c0 c1 => h1 c c0 (by omega), f⟩
      refine rh1.of (rX32_join_36 hm _ _ _ _ ?_)
      rw [f 0 218 (by omega), f 0 219 (by omega), hn]
      exact ⟨⟨by omega, by omega⟩, fun z => by omega, fun _ => HP⟩
    | succ u ih =>
      intro k X hk k0 h1 h2 f
      have ek : X 173 k = B 173 k := h2 k (by omega)
      have ej : rh_if (X 173 k = mx) mn (X 173 k) = jnl (B 173) a b k := by
        rw [ek]
        by_cases z : B 173 k = mx
        · rw [rh_if_t z, (H k).1 z]
        · rw [rh_if_f z, (H k).2 z]
      obtain ⟨X', E, r⟩ := ih (k + 1) (rh_set X 173 k (jnl (B 173) a b k)) (by omega) (by omega) (fun c c0 c1 => by
        by_cases e : c = k
        · rw [e, rh_set_s]
        · rw [rh_set_j e]; exact h1 c c0 (by omega)) (fun c c0 => by rw [rh_set_j (by omega)]; exact h2 c (by omega)) (f.st rfl)
      refine ⟨X', fun P HP => ?_, r⟩
      refine rh1.of (rX32_join_36 hm _ _ _ _ ?_)
      rw [f 0 218 (by omega), f 0 219 (by omega), hn, ej]
      refine ⟨⟨by omega, by omega⟩, fun _ => ⟨⟨by omega, by omega⟩, fun _ => ⟨by omega, by omega⟩, ?_⟩, fun z => absurd ⟨by omega, q⟩ z⟩
      (intro zq hzq; replace hzq := hzq.symm; subst hzq)
      exact ⟨⟨by omega, by omega⟩, ⟨by omega, by omega⟩, E P HP⟩
  obtain ⟨B', E, h, f⟩ := key n.toNat 0 B (by omega) (by decide) (fun c c0 c1 => by omega) (fun _ _ => rfl) frx.rf
  exact ⟨B', eC.of1 (rC1.of (by decide) (LE0 rfl) (start _ (E _ ⟨rfl, rfl⟩))), h, f⟩
/-- ink across a rule at place k -/
def Ikw (B : rhM) (p way fr j k : Int) : Prop := ∃ i, (fr ≤ i ∧ i < j) ∧ Bkw B p way i k
theorem Ikw_s {B : rhM} {p way fr j k : Int} (h : fr ≤ j) : (Ikw B p way fr j k ∨ Bkw B p way j k) ↔ Ikw B p way fr (j + 1) k := by
  constructor
  · rintro (⟨i, h1, h2⟩ | h2)
    · exact ⟨i, by omega, h2⟩
    · exact ⟨j, by omega, h2⟩
  · rintro ⟨i, h1, h2⟩
    by_cases e : i = j
    · rw [e] at h2; exact .inr h2
    · exact .inl ⟨i, by omega, h2⟩
theorem Ikw_0 {B : rhM} {p way fr k : Int} : ¬ Ikw B p way fr fr k := fun ⟨i, h1, _⟩ => by omega
noncomputable def cnk (Q : Int → Prop) (s : Int) : Nat → Int
  | 0 => 0
  | u + 1 => cnk Q s u + rh_if (Q (s + u)) 1 0
theorem cnk_b {Q : Int → Prop} {s : Int} : ∀ u : Nat, 0 ≤ cnk Q s u ∧ cnk Q s u ≤ u
  | 0 => ⟨Int.le_refl _, by show (0 : Int) ≤ ((0 : Nat) : Int); decide⟩
  | u + 1 => by
    have r := cnk_b (Q := Q) (s := s) u
    have i := if01 (Q (s + u))
    show 0 ≤ cnk Q s u + rh_if (Q (s + u)) 1 0 ∧ cnk Q s u + rh_if (Q (s + u)) 1 0 ≤ ((u + 1 : Nat) : Int)
    omega
def Jnd (B : rhM) (p way fr la s t : Int) : Prop := 2 * cnk (fun k => Ikw B p way fr (la + 1) k) s (t - s).toNat < t - s
theorem c_areJ (hh : rh_hs wh) {A B : rhM} (R : Rpg A B) {p way rule s t fr la : Int} (hp : 0 ≤ p ∧ p < 8) (hr : 0 ≤ 128 * way + rule ∧ 128 * way + rule < 256) (h1 : A 207 (128 * way + rule) = fr) (h2 : A 208 (128 * way + rule) = la) (hb1 : 0 ≤ fr ∧ fr ≤ la ∧ la ≤ 200) (hst : 0 ≤ s ∧ s ≤ 200 ∧ 0 ≤ t ∧ t ≤ 200) : eC wh YX24_areJoined 3 [(2, 205), (2, 251 + 39 * p), (0, way), (0, rule), (0, s), (0, t)] A (rh_if (Jnd B p way fr la s t) 1 0) A := by
  have hb := hs_pg hh hp.1 hp.2
  refine eC.of1 (rC1.of (by decide) (LE0 rfl) ?_)
  have inner : ∀ (u : Nat) (j bl k : Int), j + u = la + 1 → fr ≤ j → eS wh YX24_areJoined 3 31 [(0, 2, 205), (1, 2, 251 + 39 * p), (2, 0, way), (3, 0, rule), (4, 0, s), (5, 0, t), (6, 0, bl), (7, 0, k), (8, 0, rh_if (Ikw B p way fr j k) 1 0), (9, 0, j)] [] A 31 [(0, 2, 205), (1, 2, 251 + 39 * p), (2, 0, way), (3, 0, rule), (4, 0, s), (5, 0, t), (6, 0, bl), (7, 0, k), (8, 0, rh_if (Ikw B p way fr (la + 1) k) 1 0), (9, 0, la + 1)] [] A := by
    intro u
    induction u with
    | zero =>
      intro j bl k hj j0
      have e : j = la + 1 := by omega
      rw [e]
      exact eS.rf
    | succ u ih =>
      intro j bl k hj j0
      refine eS.of (fun P HP => ?_)
      refine rh1.of (rX24_areJoined_31 hh _ _ _ _ _ _ _ _ _ _ hb ?_)
      rw [h2]
      refine ⟨⟨by omega, by omega⟩, fun _ => rh1.s (vX24_areJoined_56 (c_rbH hh R (p := p) (way := way) (i := j) (k := k) hp) (LE0 rfl)) ?_, fun z => by omega⟩
      refine rh1.of (rX24_areJoined_59 hh _ _ _ _ _ _ _ _ _ _ _ hb ?_)
      rw [or_if, Ikw_s j0]
      exact ⟨⟨by omega, by omega⟩, rh1.s (ih (j + 1) bl k (by omega) (by omega)) HP⟩
  have key : ∀ (u v : Nat), ((v : Int) + u = t - s ∨ (u = 0 ∧ v = 0 ∧ t ≤ s)) → rh1 wh YX24_areJoined 3 7 [(0, 2, 205), (1, 2, 251 + 39 * p), (2, 0, way), (3, 0, rule), (4, 0, s), (5, 0, t), (6, 0, cnk (fun k => Ikw B p way fr (la + 1) k) s v), (7, 0, s + v)] [] A (fun r M' => r = rh_if (Jnd B p way fr la s t) 1 0 ∧ M' = A) := by
    intro u
    induction u with
    | zero =>
      intro v hv
      have b := cnk_b (Q := fun k => Ikw B p way fr (la + 1) k) (s := s) v
      have e : v = (t - s).toNat := by omega
      refine rh1.of (rX24_areJoined_7 hh _ _ _ _ _ _ _ _ hb ?_)
      refine ⟨fun z => by omega, fun _ => ⟨⟨by omega, by omega⟩, ⟨by omega, by omega⟩, ?_, rfl⟩⟩
      unfold Jnd
      rw [e]
    | succ u ih =>
      intro v hv
      have b := cnk_b (Q := fun k => Ikw B p way fr (la + 1) k) (s := s) v
      refine rh1.of (rX24_areJoined_7 hh _ _ _ _ _ _ _ _ hb ?_)
      rw [h1]
      refine ⟨fun _ => ⟨⟨by omega, by omega⟩, ?_⟩, fun z => by omega⟩
      (intro zq hzq; replace hzq := hzq.symm; subst hzq)
      have E := inner (la + 1 - fr).toNat fr (cnk (fun k => Ikw B p way fr (la + 1) k) s v) (s + v) (by omega) (by omega)
      rw [rh_if_f Ikw_0] at E
      refine rh1.s E ?_
      have i := if01 (Ikw B p way fr (la + 1) (s + v))
      refine rh1.of (rX24_areJoined_31 hh _ _ _ _ _ _ _ _ _ _ hb ?_)
      rw [h2]
      refine ⟨⟨by omega, by omega⟩, fun z => by omega, fun _ => ?_⟩
      have e : rh_if (rh_if (Ikw B p way fr (la + 1) (s + v)) (1 : Int) 0 ≠ 0) (1 : Int) 0 = rh_if (Ikw B p way fr (la + 1) (s + v)) 1 0 := by
        by_cases q : Ikw B p way fr (la + 1) (s + v)
        · rw [rh_if_t q, rh_if_t (by decide)]
        · rw [rh_if_f q, rh_if_f (by decide)]
      rw [e]
      (intro zq hzq; replace hzq := hzq.symm; subst hzq)
      refine ⟨⟨by omega, by omega⟩, ⟨by omega, by omega⟩, ?_⟩
      rw [show s + (v : Int) + 1 = s + ((v + 1 : Nat) : Int) by omega]
      exact ih (v + 1) (.inl (by omega))
  refine rh1.of (rX24_areJoined_0 hh _ _ _ _ _ _ hb ?_)
  have K := key (t - s).toNat 0 (by omega)
  rw [show s + ((0 : Nat) : Int) = s by omega] at K
  exact K
theorem c_inked (hm : rh_ms wm) {A B : rhM} (R : Rpg A B) {p way fr la k t : Int} (hp : 0 ≤ p ∧ p < 8) (hb1 : 0 ≤ fr ∧ fr ≤ la ∧ la ≤ 200) (wt : (way = 0 ∧ t = 1) ∨ (way = 1 ∧ t = 0)) : eC wm YX32_isInked 2 [(2, 0), (0, p), (0, fr), (0, la), (0, k), (0, t)] B (rh_if (Ikw B p way fr (la + 1) k) 1 0) B := by
  refine eC.of1 (rC1.of (by decide) (LE0 rfl) ?_)
  have key : ∀ (u : Nat) (j : Int), j + u = la + 1 → fr ≤ j → ¬ Ikw B p way fr j k → rh1 wm YX32_isInked 2 3 [(0, 2, 0), (1, 0, p), (3, 0, la), (4, 0, k), (5, 0, t), (6, 0, j)] [] B (fun r M' => r = rh_if (Ikw B p way fr (la + 1) k) 1 0 ∧ M' = B) := by
    intro u
    induction u with
    | zero =>
      intro j hj j0 hn
      have e : j = la + 1 := by omega
      rw [e] at hn ⊢
      refine rh1.of (rX32_isInked_3 hm _ _ _ _ _ _ ?_)
      exact ⟨fun z => by omega, fun _ => ⟨(rh_if_f hn).symm, rfl⟩⟩
    | succ u ih =>
      intro j hj j0 hn
      refine rh1.of (rX32_isInked_3 hm _ _ _ _ _ _ ?_)
      refine ⟨fun _ => rh1.s (vX32_isInked_35 hm (c_rbM hm R (p := p) (way := way) (i := j) (k := k) (t := t) hp wt) (LE0 rfl)) ?_, fun z => by omega⟩
      refine rh1.of (rX32_isInked_38 hm _ _ _ _ _ _ _ ?_)
      by_cases q : Bkw B p way j k
      · rw [rh_if_t q]
        refine ⟨fun _ => ⟨(rh_if_t ?_).symm, rfl⟩, fun z => absurd (show (1 : Int) ≠ 0 by decide) z⟩
        exact ⟨j, by omega, q⟩
      · rw [rh_if_f q]
        exact ⟨fun z => absurd rfl z, fun _ => ⟨⟨by omega, by omega⟩, ih (j + 1) (by omega) (by omega) (fun z => ((Ikw_s j0).mpr z).elim hn q)⟩⟩
  refine rh1.of (rX32_isInked_0 hm _ _ _ _ _ _ ?_)
  exact key (la + 1 - fr).toNat fr (by omega) (by omega) Ikw_0
end Cells
