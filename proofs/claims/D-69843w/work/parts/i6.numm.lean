/-! ===== LAYER 2: readNumber ===== -/
section NumM
variable {wm : rhW}
def un3 (k : Nat) : Int := if k = 0 then 100 else if k = 1 then 10 else if k = 2 then 1 else 0
def ptk (t : Int → Int) (b : Int) : Nat → Int
  | 0 => 0
  | k + 1 => ptk t b k + un3 k * (t (b + k) - 48)
theorem ptk_e {t : Int → Int} {b : Int} {k : Nat} (h : 1 ≤ k ∧ k ≤ 3) : ptk t b k = pw3 k * vl t b k := by
  have c : k = 1 ∨ k = 2 ∨ k = 3 := by omega
  rcases c with h | h | h
  · subst h; show 0 + 100 * (t (b + ((0 : Nat) : Int)) - 48) = pw3 1 * (10 * 0 + t (b + ((0 : Nat) : Int)) - 48); unfold pw3; rw [if_pos rfl]; omega
  · subst h; show 0 + 100 * (t (b + ((0 : Nat) : Int)) - 48) + 10 * (t (b + ((1 : Nat) : Int)) - 48) = pw3 2 * (10 * (10 * 0 + t (b + ((0 : Nat) : Int)) - 48) + t (b + ((1 : Nat) : Int)) - 48); unfold pw3; rw [if_neg (by decide), if_pos rfl]; omega
  · subst h; show 0 + 100 * (t (b + ((0 : Nat) : Int)) - 48) + 10 * (t (b + ((1 : Nat) : Int)) - 48) + 1 * (t (b + ((2 : Nat) : Int)) - 48) = pw3 3 * (10 * (10 * (10 * 0 + t (b + ((0 : Nat) : Int)) - 48) + t (b + ((1 : Nat) : Int)) - 48) + t (b + ((2 : Nat) : Int)) - 48); unfold pw3; rw [if_neg (by decide), if_neg (by decide)]; omega
theorem ptk_b {t : Int → Int} {b : Int} : ∀ k : Nat, k ≤ 3 → (∀ i, b ≤ i → i < b + k → Dg (t i)) → 0 ≤ ptk t b k ∧ ptk t b k ≤ 900 * k
  | 0, _, _ => by show (0 : Int) ≤ 0 ∧ (0 : Int) ≤ 900 * ((0 : Nat) : Int); omega
  | k + 1, hk, h => by
    have i := ptk_b k (by omega) (fun i i0 i1 => h i i0 (by omega))
    have d := h (b + k) (by omega) (by omega)
    unfold Dg at d
    have c : k = 0 ∨ k = 1 ∨ k = 2 := by omega
    show 0 ≤ ptk t b k + un3 k * (t (b + k) - 48) ∧ ptk t b k + un3 k * (t (b + k) - 48) ≤ 900 * ((k + 1 : Nat) : Int)
    rcases c with c | c | c
    · rw [show un3 k = 100 by rw [c]; rfl]; omega
    · rw [show un3 k = 10 by rw [c]; rfl]; omega
    · rw [show un3 k = 1 by rw [c]; rfl]; omega
theorem un3_d {k : Nat} (h : k ≤ 2) : un3 k / 10 = un3 (k + 1) ∧ 0 ≤ un3 k ∧ un3 k ≤ 100 := by
  have c : k = 0 ∨ k = 1 ∨ k = 2 := by omega
  rcases c with c | c | c <;> (rw [c]; decide)
theorem m_n56 (hm : rh_ms wm) {B : rhM} {w m f b ls : Int} {t : Int → Int} (tw : ∀ s, rh_if ((B 123 w) = 1) (B 127 ((12 * w) + s)) (B 126 ((48 * w) + s)) = t s) (hw : 0 ≤ w ∧ w < 320) (hm2 : m ≤ 12) (hf : 0 ≤ f) (hb : f ≤ b ∧ b ≤ m ∧ b ≤ f + 7) (hd : ∀ i, f ≤ i → i < b → Dg (t i)) : ∀ (u k : Nat), f + k + u = b → eS wm YX32_readNumber 1 56 [(0, 2, 0), (1, 0, w), (2, 0, m), (3, 0, f + k), (4, 0, ls), (5, 0, f), (6, 0, vl t f k)] [] B 56 [(0, 2, 0), (1, 0, w), (2, 0, m), (3, 0, b), (4, 0, ls), (5, 0, f), (6, 0, vl t f (b - f).toNat)] [] B := by
  intro u
  induction u with
  | zero =>
    intro k hk
    rw [show f + (k : Int) = b by omega, show (b - f).toNat = k by omega]
    exact eS.rf
  | succ u ih =>
    intro k hk
    have v := vl_b (t := t) (a := f) k (fun i i0 i1 => hd i i0 (by omega))
    have p := (p10 (k := k) (by omega)).2.1 (by omega)
    have d := hd (f + k) (by omega) (by omega)
    have d' : 48 ≤ t (f + k) ∧ t (f + k) ≤ 57 := d
    refine eS.of (fun P HP => ?_)
    refine rh1.of (rX32_readNumber_56 hm _ _ _ _ _ _ _ ?_)
    simp only [tw]
    refine ⟨fun _ => hw, fun _ _ => ⟨by omega, by omega⟩, fun _ _ => ⟨by omega, by omega⟩, fun _ _ => ⟨by omega, by omega⟩, fun _ => ⟨hw, fun _ => ⟨by omega, by omega⟩, fun _ => ⟨by omega, by omega⟩, ?_⟩, fun z => absurd ⟨by omega, d', by omega⟩ z⟩
    intro v2 hv2
    have ev : v2 = vl t f (k + 1) := hv2
    have nx := ih (k + 1) (by omega)
    rw [show f + ((k + 1 : Nat) : Int) = f + k + 1 by omega] at nx
    have vb : rI v2 := by rw [hv2]; exact ⟨by omega, by omega⟩
    rw [ev] at vb ⊢
    exact ⟨vb, ⟨by omega, by omega⟩, rh1.s nx HP⟩
theorem m_n176 (hm : rh_ms wm) {B : rhM} {w m c e ls V : Int} {t : Int → Int} (tw : ∀ s, rh_if ((B 123 w) = 1) (B 127 ((12 * w) + s)) (B 126 ((48 * w) + s)) = t s) (hw : 0 ≤ w ∧ w < 320) (hm2 : m ≤ 12) (hc : 0 ≤ c) (hb : c + 1 ≤ e ∧ e ≤ m ∧ e ≤ c + 4) (hd : ∀ i, c + 1 ≤ i → i < e → Dg (t i)) : ∀ (u k : Nat), c + 1 + k + u = e → eS wm YX32_readNumber 1 176 [(0, 2, 0), (1, 0, w), (2, 0, m), (3, 0, c + 1 + k), (4, 0, ls), (6, 0, V), (7, 0, ptk t (c + 1) k), (8, 0, c), (9, 0, un3 k)] [] B 176 [(0, 2, 0), (1, 0, w), (2, 0, m), (3, 0, e), (4, 0, ls), (6, 0, V), (7, 0, ptk t (c + 1) (e - (c + 1)).toNat), (8, 0, c), (9, 0, un3 (e - (c + 1)).toNat)] [] B := by
  intro u
  induction u with
  | zero =>
    intro k hk
    rw [show c + 1 + (k : Int) = e by omega, show (e - (c + 1)).toNat = k by omega]
    exact eS.rf
  | succ u ih =>
    intro k hk
    have v := ptk_b (t := t) (b := c + 1) k (by omega) (fun i i0 i1 => hd i i0 (by omega))
    have d := hd (c + 1 + k) (by omega) (by omega)
    have d' : 48 ≤ t (c + 1 + k) ∧ t (c + 1 + k) ≤ 57 := d
    have u3 := un3_d (k := k) (by omega)
    have v' := ptk_b (t := t) (b := c + 1) (k + 1) (by omega) (fun i i0 i1 => hd i i0 (by omega))
    refine eS.of (fun P HP => ?_)
    refine rh1.of (rX32_readNumber_176 hm _ _ _ _ _ _ _ _ _ ?_)
    simp only [tw]
    refine ⟨fun _ => hw, fun _ _ => ⟨by omega, by omega⟩, fun _ _ => ⟨by omega, by omega⟩, fun _ _ => ⟨by omega, by omega⟩, fun _ => ⟨hw, fun _ => ⟨by omega, by omega⟩, fun _ => ⟨by omega, by omega⟩, ?_⟩, fun z => absurd ⟨by omega, d', by omega⟩ z⟩
    intro v2 hv2
    have ev : v2 = ptk t (c + 1) (k + 1) := hv2
    have nx := ih (k + 1) (by omega)
    rw [show c + 1 + ((k + 1 : Nat) : Int) = c + 1 + k + 1 by omega, ← u3.1] at nx
    rw [ev]
    exact ⟨⟨by omega, by omega⟩, ⟨u3.2.1, by decide⟩, ⟨by omega, by omega⟩, rh1.s nx HP⟩
/-- the end: the number may go over -/
theorem m_n269 (hm : rh_ms wm) {x4 x6 x7 : Int} {M : rhM} : ∃ y, (rI (rh_if (x4 ≠ 0) (-((1000 * x6) + x7)) ((1000 * x6) + x7)) → y = rh_if (x4 ≠ 0) (-((1000 * x6) + x7)) ((1000 * x6) + x7)) ∧ ∀ P : Int → rhM → Prop, P 0 (rh_set M 0 247 y) → rh1 wm YX32_readNumber 1 269 [(0, 2, 0), (4, 0, x4), (6, 0, x6), (7, 0, x7)] [] M P := by
  by_cases r : rI (rh_if (x4 ≠ 0) (-((1000 * x6) + x7)) ((1000 * x6) + x7))
  · refine ⟨_, fun _ => rfl, fun P h => ?_⟩
    refine rh1.of (rX32_readNumberq_269 hm _ _ _ _ ?_)
    refine rh1.s (eS.fx 0 rfl r rfl) ?_
    refine rh1.of (rX32_readNumberq_297 hm _ _ ?_)
    exact h
  · obtain ⟨y, -, E⟩ := eS.wr (w := wm) (Y := YX32_readNumber) (h := 1) (pc := 297) (L := []) (S1 := [(2, 0)]) (M := M) (x := rh_if (x4 ≠ 0) (-((1000 * x6) + x7)) ((1000 * x6) + x7))
    refine ⟨y, fun q => absurd q r, fun P h => ?_⟩
    refine rh1.of (rX32_readNumberq_269 hm _ _ _ _ ?_)
    refine rh1.s E ?_
    refine rh1.of (rX32_readNumberq_297 hm _ _ ?_)
    exact h
theorem c_numM (hm : rh_ms wm) {B : rhM} {w m : Int} {t : Int → Int} (hw : 0 ≤ w ∧ w < 320) (hm2 : 1 ≤ m ∧ m ≤ 12) (hz : wsz B w = m) (ht : ∀ s, wch B w s = t s) : ∃ B', eC wm YX32_readNumber 1 [(2, 0), (0, w)] B 0 B' ∧ frx (fun c j => c = 0 ∧ (j = 246 ∨ j = 247)) B B' ∧ ((B' 0 246 = 0 ∧ ∀ y, ¬ Nm t m y) ∨ (B' 0 246 = 1 ∧ Nm t m (B' 0 247))) := by
  have tw : ∀ s, rh_if ((B 123 w) = 1) (B 127 ((12 * w) + s)) (B 126 ((48 * w) + s)) = t s := fun s => ht s
  have fb := fst_b t
  obtain ⟨f, hf⟩ : ∃ f, f = fst t := ⟨_, rfl⟩
  rw [← hf] at fb
  obtain ⟨ls, hls⟩ : ∃ ls, ls = rh_if (t 0 = 45) (1 : Int) 0 := ⟨_, rfl⟩
  have lsE : ∀ v : Int, rh_if (ls ≠ 0) (-v) v = sgd t v := fun v => by
    unfold sgd
    rw [hls]
    exact if_cg if10.1
  have ent : ∀ P : Int → rhM → Prop, rh1 wm YX32_readNumber 1 56 [(0, 2, 0), (1, 0, w), (2, 0, m), (3, 0, f), (4, 0, ls), (5, 0, f), (6, 0, 0)] [] B P → rh1 wm YX32_readNumber 1 0 [(0, 2, 0), (1, 0, w)] [] B P := fun P HP => by
    refine rh1.of (rX32_readNumber_0 hm _ _ ?_)
    simp only [tw]
    refine ⟨hw, fun _ => hw, fun _ => ⟨by omega, by omega⟩, fun s hs => ⟨hw, fun _ => ⟨by omega, by omega⟩, fun _ => ⟨by omega, by omega⟩, fun l hl => ⟨fun _ => hw, fun _ _ => ⟨by omega, by omega⟩, fun _ _ => ⟨by omega, by omega⟩, fun g hg => ?_⟩⟩⟩
    have es : s = m := by rw [hs]; exact hz
    have el : l = ls := by rw [hl, hls]
    have eg : g = f := by
      rw [hg, hf, el, hls, Int.zero_add]
      unfold fst
      exact if_cg ⟨fun z => z.imp (fun z => if10.1.mp z) id, fun z => z.imp (fun z => if10.1.mpr z) id⟩
    rw [es, el, eg]
    exact ⟨⟨by omega, by omega⟩, HP⟩
  obtain ⟨b, db⟩ := Dr.ex (t := t) (m := m) (m - f).toNat f (by omega)
  obtain ⟨⟨d1, d2⟩, d3, d4⟩ := id db
  obtain ⟨c, hc⟩ : ∃ c, c = (if b ≤ f + 7 then b else f + 7) := ⟨_, rfl⟩
  have cb : f ≤ c ∧ c ≤ m ∧ c ≤ f + 7 ∧ c ≤ b := by rw [hc]; split <;> omega
  have cx : ¬ ((c < m) ∧ (((48 ≤ t c) ∧ (t c ≤ 57)) ∧ ((c - f) < 7))) := by
    rw [hc]
    by_cases y : b ≤ f + 7
    · rw [if_pos y]
      rcases d4 with d4 | d4
      · intro z; omega
      · exact fun z => d4 z.2.1
    · rw [if_neg y]; intro z; omega
  have W := m_n56 hm (t := t) (f := f) (b := c) (ls := ls) tw hw hm2.2 fb.1 ⟨cb.1, cb.2.1, cb.2.2.1⟩ (fun i i0 i1 => d3 i i0 (by omega)) (c - f).toNat 0 (by omega)
  rw [show f + ((0 : Nat) : Int) = f by omega] at W
  have V0 := vl_b (t := t) (a := f) (c - f).toNat (fun i i0 i1 => d3 i i0 (by omega))
  have Vp := (p10 (k := (c - f).toNat) (by omega)).1
  obtain ⟨V, hV⟩ : ∃ V, V = vl t f (c - f).toNat := ⟨_, rfl⟩
  rw [← hV] at W V0
  have uniq : ∀ b', Dr t m (fst t) b' → b' = b := fun b' h => by rw [← hf] at h; exact h.one db
  obtain ⟨ok, hok⟩ : ∃ ok, ok = rh_if ((f < c) ∧ ((c - f) ≤ 6)) (1 : Int) 0 := ⟨_, rfl⟩
  obtain ⟨B1, hB1⟩ : ∃ B1, B1 = rh_set B 0 246 ok := ⟨_, rfl⟩
  have g1 : frx (fun c j => c = 0 ∧ (j = 246 ∨ j = 247)) B B1 := by rw [hB1]; exact frx.rf.st ⟨rfl, .inl rfl⟩
  have b46 : B1 0 246 = ok := by rw [hB1, rh_set_s]
  have tw1 : ∀ s, rh_if ((B1 123 w) = 1) (B1 127 ((12 * w) + s)) (B1 126 ((48 * w) + s)) = t s := fun s => by
    rw [hB1, rh_set_a (by decide), rh_set_a (by decide), rh_set_a (by decide)]; exact tw s
  have okb : 0 ≤ ok ∧ ok ≤ 1 := by rw [hok]; exact if10.2.2
  have okI : ok ≠ 0 ↔ (f < c) ∧ ((c - f) ≤ 6) := by rw [hok]; exact if10.1
  have cbE : (f < c) ∧ ((c - f) ≤ 6) → c = b := fun z => by
    rw [hc] at z ⊢
    by_cases y : b ≤ f + 7
    · rw [if_pos y]
    · rw [if_neg y] at z; omega
  obtain ⟨y7, hy7, H7⟩ := m_n269 hm (x4 := ls) (x6 := V) (x7 := 0) (M := rh_set B1 0 246 (rh_if ((ok ≠ 0) ∧ (c = m)) (1 : Int) 0))
  have exit56 : ∀ P : Int → rhM → Prop, ((ok ≠ 0 ∧ c < m ∧ (t c = 46 ∨ t c = 44)) → rh1 wm YX32_readNumber 1 176 [(0, 2, 0), (1, 0, w), (2, 0, m), (3, 0, c + 1), (4, 0, ls), (6, 0, V), (7, 0, 0), (8, 0, c), (9, 0, 100)] [] B1 P) → (¬ (ok ≠ 0 ∧ c < m ∧ (t c = 46 ∨ t c = 44)) → P 0 (rh_set (rh_set B1 0 246 (rh_if ((ok ≠ 0) ∧ (c = m)) 1 0)) 0 247 y7)) → rh1 wm YX32_readNumber 1 56 [(0, 2, 0), (1, 0, w), (2, 0, m), (3, 0, c), (4, 0, ls), (5, 0, f), (6, 0, V)] [] B P := fun P h1 h2 => by
    have fin : ¬ (ok ≠ 0 ∧ c < m ∧ (t c = 46 ∨ t c = 44)) → ∀ M301 : rhM, M301 = B1 → ∀ v : Int, v = rh_if (((M301 0 246) ≠ 0) ∧ (c = m)) (1 : Int) 0 → (0 ≤ v ∧ v ≤ 1) ∧ rh1 wm YX32_readNumber 1 269 [(0, 2, 0), (4, 0, ls), (6, 0, V), (7, 0, 0)] [] (rh_set M301 0 246 v) P := fun no M301 e1 v e2 => by
      rw [e1, b46] at e2
      refine ⟨by rw [e2]; exact if10.2.2, ?_⟩
      rw [e1, e2]
      exact H7 P (h2 no)
    refine rh1.of (rX32_readNumberq_56 hm _ _ _ _ _ _ _ ?_)
    simp only [tw]
    refine ⟨fun _ => hw, fun _ _ => ⟨by omega, by omega⟩, fun _ _ => ⟨by omega, by omega⟩, fun _ _ => ⟨by omega, by omega⟩, fun z => absurd z cx, fun _ => ⟨fun _ => ⟨by omega, by omega⟩, fun k hk => ?_⟩⟩
    have ek : k = ok := by rw [hk, hok]
    rw [ek, ← hB1, b46]
    simp only [tw1]
    refine ⟨okb, fun z => ⟨hw, fun _ => ⟨by omega, by omega⟩, fun _ => ⟨by omega, by omega⟩, fun _ => hw, fun _ _ => ⟨by omega, by omega⟩, fun _ _ => ⟨by omega, by omega⟩, fun q => ⟨⟨by omega, by omega⟩, h1 ⟨z.1, z.2, q⟩⟩, fun q => ?_⟩, fun z => ?_⟩
    · exact fin (fun y => q y.2.2)
    · exact fin (fun y => z ⟨y.1, y.2.1⟩)
  have zero56 : ∀ P : Int → rhM → Prop, ¬ (ok ≠ 0 ∧ c < m ∧ (t c = 46 ∨ t c = 44)) → P 0 (rh_set (rh_set B1 0 246 (rh_if ((ok ≠ 0) ∧ (c = m)) 1 0)) 0 247 y7) → rh1 wm YX32_readNumber 1 0 [(0, 2, 0), (1, 0, w)] [] B P := fun P h HP => ent P (rh1.s W (exit56 P (fun z => absurd z h) (fun _ => HP)))
  by_cases pt : ok ≠ 0 ∧ c < m ∧ (t c = 46 ∨ t c = 44)
  case neg =>
    refine ⟨_, eC.of1 (rC1.of (by decide) (LE0 rfl) (zero56 _ pt ⟨rfl, rfl⟩)), (g1.st ⟨rfl, .inl rfl⟩).st ⟨rfl, .inr rfl⟩, ?_⟩
    rw [rh_set_j (by decide), rh_set_s, rh_set_s]
    by_cases y : (ok ≠ 0) ∧ (c = m)
    · have z := okI.mp y.1
      have ce := cbE z
      have V6 : V < 1000000 := by
        have := (p10 (k := (c - f).toNat) (by omega)).2.1 (by omega)
        omega
      have e7 : y7 = sgd t (1000 * V) := by
        rw [Int.add_zero, lsE] at hy7
        refine hy7 ?_
        unfold sgd
        by_cases q : t 0 = 45
        · rw [rh_if_t q]; exact ⟨by omega, by omega⟩
        · rw [rh_if_f q]; exact ⟨by omega, by omega⟩
      refine .inr ⟨rh_if_t y, b, by rw [← hf]; exact db, by rw [← hf]; omega, .inl ⟨by omega, ?_⟩⟩
      rw [e7, hV, ← hf, ce]
    · refine .inl ⟨rh_if_f y, fun y' ⟨b', b1, b2, b3⟩ => ?_⟩
      have eb := uniq b' b1
      rw [← hf] at b2
      rw [eb] at b2 b3
      have ce : c = b := by rw [hc, if_pos (by omega)]
      have ok1 : ok ≠ 0 := okI.mpr (by omega)
      rcases b3 with ⟨b4, -⟩ | ⟨b4, b5, -⟩
      · exact y ⟨ok1, by omega⟩
      · exact pt ⟨ok1, by omega, by rw [ce]; exact b5⟩
  have ce := cbE (okI.mp pt.1)
  have okz := okI.mp pt.1
  obtain ⟨e, de⟩ := Dr.ex (t := t) (m := m) (m - (c + 1)).toNat (c + 1) (by omega)
  obtain ⟨⟨g2, g3⟩, g4, g5⟩ := id de
  obtain ⟨h, hhd⟩ : ∃ h, h = (if e ≤ c + 4 then e else c + 4) := ⟨_, rfl⟩
  have hb2 : c + 1 ≤ h ∧ h ≤ m ∧ h ≤ c + 4 ∧ h ≤ e := by rw [hhd]; split <;> omega
  have hxx : ¬ ((h < m) ∧ (((48 ≤ t h) ∧ (t h ≤ 57)) ∧ ((h - c) ≤ 3))) := by
    rw [hhd]
    by_cases y : e ≤ c + 4
    · rw [if_pos y]
      rcases g5 with g5 | g5
      · intro z; omega
      · exact fun z => g5 z.2.1
    · rw [if_neg y]; intro z; omega
  have W2 := m_n176 hm (t := t) (c := c) (e := h) (ls := ls) (V := V) tw1 hw hm2.2 (by omega) ⟨hb2.1, hb2.2.1, hb2.2.2.1⟩ (fun i i0 i1 => g4 i i0 (by omega)) (h - (c + 1)).toNat 0 (by omega)
  rw [show c + 1 + ((0 : Nat) : Int) = c + 1 by omega] at W2
  have W2' : eS wm YX32_readNumber 1 176 [(0, 2, 0), (1, 0, w), (2, 0, m), (3, 0, c + 1), (4, 0, ls), (6, 0, V), (7, 0, 0), (8, 0, c), (9, 0, 100)] [] B1 176 [(0, 2, 0), (1, 0, w), (2, 0, m), (3, 0, h), (4, 0, ls), (6, 0, V), (7, 0, ptk t (c + 1) (h - (c + 1)).toNat), (8, 0, c), (9, 0, un3 (h - (c + 1)).toNat)] [] B1 := W2
  have pb := ptk_b (t := t) (b := c + 1) (h - (c + 1)).toNat (by omega) (fun i i0 i1 => g4 i i0 (by omega))
  obtain ⟨pl, hpl⟩ : ∃ pl : Nat, pl = (h - (c + 1)).toNat := ⟨_, rfl⟩
  rw [← hpl] at W2' pb
  have V6 : V < 1000000 := by
    have := (p10 (k := (c - f).toNat) (by omega)).2.1 (by omega)
    omega
  refine ⟨rh_set (rh_set (rh_set B1 0 246 (rh_if ((c + 1) < h) (1 : Int) 0)) 0 246 (rh_if ((c + 1 < h) ∧ (h = m)) (1 : Int) 0)) 0 247 (sgd t (1000 * V + ptk t (c + 1) pl)), eC.of1 (rC1.of (by decide) (LE0 rfl) (ent _ (rh1.s W (exit56 _ (fun _ => rh1.s W2' ?_) (fun z => absurd pt z))))), ((g1.st ⟨rfl, .inl rfl⟩).st ⟨rfl, .inl rfl⟩).st ⟨rfl, .inr rfl⟩, ?_⟩
  · refine rh1.of (rX32_readNumber_176 hm _ _ _ _ _ _ _ _ _ ?_)
    simp only [tw1]
    refine ⟨fun _ => hw, fun _ _ => ⟨by omega, by omega⟩, fun _ _ => ⟨by omega, by omega⟩, fun _ _ => ⟨by omega, by omega⟩, fun z => absurd z hxx, fun _ => ⟨⟨by omega, by omega⟩, if10.2.2, ?_⟩⟩
    intro M3 hM3 v hv
    rw [hM3, rh_set_s] at hv
    have ev : v = rh_if ((c + 1 < h) ∧ (h = m)) (1 : Int) 0 := by
      rw [hv]
      exact if_cg ⟨fun z => ⟨if10.1.mp z.1, z.2⟩, fun z => ⟨if10.1.mpr z.1, z.2⟩⟩
    refine ⟨by rw [ev]; exact if10.2.2, fun y hy => ?_⟩
    rw [lsE] at hy
    rw [hM3, ev, hy]
    refine ⟨?_, trivial, rfl⟩
    unfold sgd
    by_cases q : t 0 = 45
    · rw [rh_if_t q]; exact ⟨by omega, by omega⟩
    · rw [rh_if_f q]; exact ⟨by omega, by omega⟩
  · rw [rh_set_j (by decide), rh_set_s, rh_set_s]
    have uniq2 : ∀ e', Dr t m (b + 1) e' → e' = e := fun e' h => by rw [← ce] at h; exact h.one de
    by_cases y : (c + 1 < h) ∧ (h = m)
    · have he : h = e := by omega
      refine .inr ⟨rh_if_t y, b, by rw [← hf]; exact db, by rw [← hf]; omega, .inr ⟨by omega, by rw [← ce]; exact pt.2.2, e, by rw [← ce]; exact de, by omega, by omega, ?_⟩⟩
      rw [ptk_e (by omega), hV, ← hf, show (c - f).toNat = (b - f).toNat by omega, show e - b - 1 = (pl : Int) by omega, show ((pl : Int)).toNat = pl by omega, show c + 1 = b + 1 by omega]
    · refine .inl ⟨rh_if_f y, fun y' ⟨b', b1, b2, b3⟩ => ?_⟩
      have eb := uniq b' b1
      rw [eb] at b3
      rcases b3 with ⟨b4, -⟩ | ⟨-, -, e', e1, e2, e3, -⟩
      · omega
      · have := uniq2 e' e1
        rw [hhd] at y
        split at y <;> omega
end NumM
