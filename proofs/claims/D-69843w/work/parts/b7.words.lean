/-! ===== LAYER 2: words come to the list ===== -/
section WordsR
variable {wh wm : rhW}
/-- where the word at k begins -/
noncomputable def bgn (v : Int → Int) : Nat → Int
  | 0 => 0
  | k + 1 => rh_if (v k = 59) ((k : Int) + 1) (bgn v k)
theorem bgn_t {v : Int → Int} {k : Nat} (h : v k = 59) : bgn v (k + 1) = (k : Int) + 1 := by simp only [bgn]; rw [rh_if_t h]
theorem bgn_f {v : Int → Int} {k : Nat} (h : ¬ v k = 59) : bgn v (k + 1) = bgn v k := by simp only [bgn]; rw [rh_if_f h]
theorem bgn_b {v : Int → Int} : ∀ k : Nat, 0 ≤ bgn v k ∧ bgn v k ≤ k
  | 0 => by simp only [bgn]; omega
  | k + 1 => by
    have := bgn_b (v := v) k
    by_cases h : v k = 59
    · rw [bgn_t h]; omega
    · rw [bgn_f h]; omega
def okW (v : Int → Int) (k : Nat) : Prop := (v k = 59 ∧ bgn v k < k) ∨ (¬ v k = 59 ∧ (33 ≤ v k ∧ v k ≤ 126) ∧ (k : Int) - bgn v k < 12)
theorem okW_s {v : Int → Int} : ∀ k : Nat, (∀ j : Nat, j < k → okW v j) → (k : Int) - bgn v k ≤ 12 ∧ ∀ t : Int, bgn v k ≤ t → t < k → ¬ v t = 59 ∧ 33 ≤ v t ∧ v t ≤ 126
  | 0 => fun _ => ⟨by simp only [bgn]; omega, fun t t0 t1 => by simp only [bgn] at t0; omega⟩
  | k + 1 => fun h => by
    obtain ⟨h1, h2⟩ := okW_s (v := v) k (fun j hj => h j (by omega))
    rcases h k (by omega) with g | g
    · rw [bgn_t g.1]
      exact ⟨(by omega), fun t t0 t1 => by omega⟩
    · rw [bgn_f g.1]
      refine ⟨(by omega), fun t t0 t1 => ?_⟩
      by_cases e : t = k
      · rw [e]; exact ⟨g.1, g.2.1⟩
      · exact h2 t t0 (by omega)
def Flt (v : Int → Int) (N q : Nat) : Prop := q ≤ N ∧ (∀ k : Nat, k < q → okW v k) ∧ ((q < N ∧ ¬ okW v q) ∨ (q = N ∧ (N = 0 ∨ bgn v N < N)))
theorem Flt.ex {v : Int → Int} (N : Nat) : (∃ q, Flt v N q) ∨ ((∀ k : Nat, k < N → okW v k) ∧ 0 < N ∧ bgn v N = N) := by
  by_cases h : ∀ k : Nat, k < N → okW v k
  · by_cases h2 : N = 0 ∨ bgn v N < N
    · exact .inl ⟨N, Nat.le_refl _, h, .inr ⟨rfl, h2⟩⟩
    · have := bgn_b (v := v) N
      exact .inr ⟨h, (by omega), (by omega)⟩
  · refine .inl ?_
    have ex : ∃ f : Int, 0 ≤ f ∧ f < N ∧ ¬ okW v f.toNat := by
      refine Classical.byContradiction (fun g => h (fun k hk => ?_))
      refine Classical.byContradiction (fun y => g ⟨k, (by omega), (by omega), ?_⟩)
      rw [show ((k : Int)).toNat = k by omega]
      exact y
    obtain ⟨f, f0, f1, f2, f3⟩ := lst1 N ex
    refine ⟨f.toNat, (by omega), fun k hk => Classical.byContradiction (fun y => f3 k (by omega) (by omega) ?_), .inl ⟨(by omega), f2⟩⟩
    rw [show ((k : Int)).toNat = k by omega]
    exact y
theorem h_readT (hh : rh_hs wh) {v : Int → Int} {N q : Nat} (hN : N ≤ 4096) (M : rhM) (h2 : M 1 2 = N) (hv : ∀ k : Int, 0 ≤ k → k < N → rh_and (M 2 k) 255 = v k) (F : Flt v N q) : ∃ M', tC wh YX18_read 3 [(2, 63), (2, 1)] M M' ∧ M' 3 6 = q ∧ frx (fun c j => (c = 1 ∧ j = 3) ∨ (c = 3 ∧ j = 6)) M M' := by
  obtain ⟨q0, ok, fl⟩ := F
  obtain ⟨M', hM'⟩ : ∃ M', M' = if q < N then rh_set (rh_set M 1 3 (q + 1)) 3 6 q else rh_set (rh_set M 1 3 q) 3 6 q := ⟨_, rfl⟩
  have st : ∀ k : Nat, k ≤ q → k < N → rx1 wh YX18_read 3 11 [(0, 2, 63), (1, 2, 1), (2, 0, (N : Int)), (3, 0, bgn v k)] [(0, v k)] (rh_set M 1 3 ((k : Int) + 1)) (fun o A => o = none ∧ A = M') → rx1 wh YX18_read 3 7 [(0, 2, 63), (1, 2, 1), (2, 0, (N : Int)), (3, 0, bgn v k)] [] (rh_set M 1 3 k) (fun o A => o = none ∧ A = M') := by
    intro k k1 k2 H
    have K := c_next hh (k := k) (n := N) (rh_set M 1 3 k) (rh_set_s _ _ _ _) (by rw [rh_set_j (by decide)]; exact h2) ⟨by omega, by omega⟩ (by omega)
    rw [rh_set_a (by decide), hv k (by omega) (by omega), set_tw] at K
    refine rx1.of (rX18_read_7 hh _ _ _ ?_)
    exact rx1.g (vgX18_read_8 hh K (LE0 rfl)) H
  have w : ∀ (m k : Nat), k + m = q → rx1 wh YX18_read 3 7 [(0, 2, 63), (1, 2, 1), (2, 0, (N : Int)), (3, 0, bgn v k)] [] (rh_set M 1 3 k) (fun o A => o = none ∧ A = M') := by
    intro m
    induction m with
    | zero =>
      intro k hk
      have e : k = q := (by omega)
      rw [e]
      rcases fl with ⟨f1, f2⟩ | ⟨f1, f2⟩
      · rw [if_pos f1] at hM'
        refine st q (Nat.le_refl _) f1 ?_
        have bb := bgn_b (v := v) q
        refine rx1.of (rX18_read_11 hh _ _ _ _ ?_)
        rw [rh_set_s, show (q : Int) + 1 - 1 = q by omega]
        refine ⟨fun z => ⟨⟨by omega, by omega⟩, ?_⟩, fun z => ⟨fun _ => ⟨by omega, by omega⟩, ?_⟩⟩
        · rw [rh_if_f (fun y => f2 (.inl ⟨z, y⟩))]
          refine rx1.g (eG.fx 0 (x := (q : Int)) rfl ⟨by omega, by omega⟩ rfl) ?_
          exact rx1.t (vtX18_read_69 hh (c_mustT hh _) (LE0 rfl)) ⟨rfl, hM'.symm⟩
        · rw [rh_if_f (fun y => f2 (.inr ⟨z, y.1, (by omega)⟩))]
          refine rx1.g (eG.fx 0 (x := (q : Int)) rfl ⟨by omega, by omega⟩ rfl) ?_
          exact rx1.t (vtX18_read_69 hh (c_mustT hh _) (LE0 rfl)) ⟨rfl, hM'.symm⟩
      · rw [if_neg (by omega)] at hM'
        have K := c_nextT hh (rh_set M 1 3 q) (by rw [rh_set_s, rh_set_j (by decide), h2, f1])
        rw [rh_set_s] at K
        refine rx1.of (rX18_read_7 hh _ _ _ ?_)
        exact rx1.t (vtX18_read_8 hh K (LE0 rfl)) ⟨rfl, hM'.symm⟩
    | succ m ih =>
      intro k hk
      have kN : k < N := (by omega)
      have o := ok k (by omega)
      have bb := bgn_b (v := v) k
      have bb1 := bgn_b (v := v) (k + 1)
      have lt : bgn v (k + 1) < N := by
        rcases fl with f | f
        · omega
        · by_cases e : k + 1 = N
          · rw [e]; omega
          · omega
      have I := ih (k + 1) (by omega)
      refine st k (by omega) kN ?_
      refine rx1.of (rX18_read_11 hh _ _ _ _ ?_)
      rw [rh_set_s, show (k : Int) + 1 - 1 = k by omega]
      refine ⟨fun z => ⟨⟨by omega, by omega⟩, ?_⟩, fun z => ⟨fun _ => ⟨by omega, by omega⟩, ?_⟩⟩
      · have g : bgn v k < k := by rcases o with o | o; exact o.2; exact absurd z o.1
        rw [rh_if_t g]
        refine rx1.g (eG.fx 0 (x := (k : Int)) rfl ⟨by omega, by omega⟩ rfl) ?_
        refine rx1.g (vgX18_read_69 hh (c_must hh (by decide) _) (LE0 rfl)) ?_
        refine rx1.of (rX18_read_72 hh _ _ _ _ ?_)
        rw [rh_set_s, rh_if_t z]
        rw [bgn_t z] at I lt
        intro x hx
        rw [hx]
        exact ⟨fun _ => I, fun y => absurd lt y⟩
      · have g : (33 ≤ v k ∧ v k ≤ 126) ∧ (k : Int) + 1 - bgn v k ≤ 12 := by rcases o with o | o; exact absurd o.1 z; exact ⟨o.2.1, (by omega)⟩
        rw [rh_if_t g]
        refine rx1.g (eG.fx 0 (x := (k : Int)) rfl ⟨by omega, by omega⟩ rfl) ?_
        refine rx1.g (vgX18_read_69 hh (c_must hh (by decide) _) (LE0 rfl)) ?_
        refine rx1.of (rX18_read_72 hh _ _ _ _ ?_)
        rw [rh_set_s, rh_if_f z]
        rw [bgn_f z] at I lt
        intro x hx
        rw [hx]
        exact ⟨fun _ => I, fun y => absurd lt y⟩
  refine ⟨M', tC.of1 (rCx.of (by decide) (LE0 rfl) ?_), ?_, ?_⟩
  · refine rx1.of (rX18_read_0 hh _ ?_)
    rw [h2]
    exact w q 0 (by omega)
  · rw [hM']
    split <;> exact rh_set_s _ _ _ _
  · rw [hM']
    split
    · exact (frx.rf.st (by omega)).st (by omega)
    · exact (frx.rf.st (by omega)).st (by omega)
theorem h_readS (hh : rh_hs wh) {v : Int → Int} {N : Nat} (hN : N ≤ 4096) (M : rhM) (h2 : M 1 2 = N) (hv : ∀ k : Int, 0 ≤ k → k < N → rh_and (M 2 k) 255 = v k) (ok : ∀ k : Nat, k < N → okW v k) (n0 : 0 < N) (hb : bgn v N = N) : eS wh YX18_read 3 0 (rh_lo 0 [(2, 63), (2, 1)]) [] M 108 [(0, 2, 63), (1, 2, 1), (2, 0, (N : Int)), (3, 0, 0), (4, 0, M 63 1), (5, 0, 0)] [] (rh_set M 1 3 N) := by
  have w : ∀ (m k : Nat), k + m = N → k < N → eS wh YX18_read 3 7 [(0, 2, 63), (1, 2, 1), (2, 0, (N : Int)), (3, 0, bgn v k)] [] (rh_set M 1 3 k) 108 [(0, 2, 63), (1, 2, 1), (2, 0, (N : Int)), (3, 0, 0), (4, 0, M 63 1), (5, 0, 0)] [] (rh_set M 1 3 N) := by
    intro m
    induction m with
    | zero => intro k hk k1; omega
    | succ m ih =>
      intro k hk kN
      have o := ok k kN
      have bb := bgn_b (v := v) k
      have bb1 := bgn_b (v := v) (k + 1)
      have K := c_next hh (k := k) (n := N) (rh_set M 1 3 k) (rh_set_s _ _ _ _) (by rw [rh_set_j (by decide)]; exact h2) ⟨by omega, by omega⟩ (by omega)
      rw [rh_set_a (by decide), hv k (by omega) (by omega), set_tw] at K
      have en : ∀ P : Int → rhM → Prop, rh1 wh YX18_read 3 108 [(0, 2, 63), (1, 2, 1), (2, 0, (N : Int)), (3, 0, 0), (4, 0, M 63 1), (5, 0, 0)] [] (rh_set M 1 3 N) P → ∀ x, x = bgn v (k + 1) → (x < (N : Int) → rh1 wh YX18_read 3 7 [(0, 2, 63), (1, 2, 1), (2, 0, (N : Int)), (3, 0, x)] [] (rh_set M 1 3 ((k : Int) + 1)) P) ∧ (¬ x < (N : Int) → ((N : Int) = 0 → rh1 wh YX18_read 3 7 [(0, 2, 63), (1, 2, 1), (2, 0, (N : Int)), (3, 0, x)] [] (rh_set M 1 3 ((k : Int) + 1)) P) ∧ (¬ (N : Int) = 0 → rh1 wh YX18_read 3 108 [(0, 2, 63), (1, 2, 1), (2, 0, (N : Int)), (3, 0, 0), (4, 0, (rh_set M 1 3 ((k : Int) + 1)) 63 1), (5, 0, 0)] [] (rh_set M 1 3 ((k : Int) + 1)) P)) := by
        intro P HP x hx
        rw [hx]
        refine ⟨fun z => ?_, fun z => ⟨fun y => by omega, fun _ => ?_⟩⟩
        · by_cases e : k + 1 = N
          · rw [e] at z; omega
          · exact rh1.s (ih (k + 1) (by omega) (by omega)) HP
        · have e : (k : Int) + 1 = N := by
            by_cases e : k + 1 = N
            · omega
            · omega
          rw [rh_set_a (by decide), e]
          exact HP
      refine eS.of (fun P HP => ?_)
      refine rh1.of (rX18_read_7 hh _ _ _ ?_)
      refine rh1.s (vX18_read_8 hh K (LE0 rfl)) ?_
      refine rh1.of (rX18_read_11 hh _ _ _ _ ?_)
      rw [rh_set_s, show (k : Int) + 1 - 1 = k by omega]
      refine ⟨fun z => ⟨⟨by omega, by omega⟩, ?_⟩, fun z => ⟨fun _ => ⟨by omega, by omega⟩, ?_⟩⟩
      · have g : bgn v k < k := by rcases o with o | o; exact o.2; exact absurd z o.1
        rw [rh_if_t g]
        refine rh1.s (eS.fx 0 (x := (k : Int)) rfl ⟨by omega, by omega⟩ rfl) ?_
        refine rh1.s (vX18_read_69 hh (c_must hh (by decide) _) (LE0 rfl)) ?_
        refine rh1.of (rX18_read_72 hh _ _ _ _ ?_)
        rw [rh_set_s, rh_if_t z]
        intro x hx
        exact en P HP x (by rw [hx, bgn_t z])
      · have g : (33 ≤ v k ∧ v k ≤ 126) ∧ (k : Int) + 1 - bgn v k ≤ 12 := by rcases o with o | o; exact absurd o.1 z; exact ⟨o.2.1, (by omega)⟩
        rw [rh_if_t g]
        refine rh1.s (eS.fx 0 (x := (k : Int)) rfl ⟨by omega, by omega⟩ rfl) ?_
        refine rh1.s (vX18_read_69 hh (c_must hh (by decide) _) (LE0 rfl)) ?_
        refine rh1.of (rX18_read_72 hh _ _ _ _ ?_)
        rw [rh_set_s, rh_if_f z]
        intro x hx
        exact en P HP x (by rw [hx, bgn_f z])
  refine eS.of (fun P HP => ?_)
  refine rh1.of (rX18_read_0 hh _ ?_)
  rw [h2]
  exact rh1.s (w N 0 (by omega) n0) HP
/-- the model looks through the tape -/
theorem m_wordsS (hm : rh_ms wm) {v : Int → Int} {N : Nat} (hN : N ≤ 4096) (M : rhM) (h2 : M 0 2 = N) (hv : ∀ k : Int, 0 ≤ k → k < N → M 1 k = v k) : ∀ (q : Nat), q ≤ N → (∀ k : Nat, k < q → okW v k) → eS wm YX32_words 2 9 [(0, 2, 0), (1, 0, 0), (2, 0, 0)] [] M 9 [(0, 2, 0), (1, 0, (q : Int) - bgn v q), (2, 0, (q : Int))] [] M := by
  intro q
  induction q with
  | zero => intro _ _; exact eS.rf
  | succ q ih =>
    intro hq ok
    have o := ok q (by omega)
    have bb := bgn_b (v := v) q
    refine (ih (by omega) (fun k hk => ok k (by omega))).tr (eS.of (fun P HP => ?_))
    refine rh1.of (rX32_words_9 hm _ _ _ ?_)
    rw [h2, hv q (by omega) (by omega)]
    refine ⟨fun _ => ⟨⟨by omega, by omega⟩, ?_⟩, fun z => by omega⟩
    intro x hx
    rcases o with o | o
    · rw [rh_if_t o.1] at hx
      rw [bgn_t o.1] at HP
      refine ⟨fun _ => ⟨fun z => by omega, fun _ => ?_⟩, fun z => by omega⟩
      intro y hy
      rw [rh_if_t (by rw [hx]; decide)] at hy
      rw [hy]
      refine ⟨⟨by omega, by omega⟩, ⟨by omega, by omega⟩, ?_⟩
      rw [show ((q + 1 : Nat) : Int) - ((q : Int) + 1) = 0 by omega] at HP
      exact HP
    · rw [rh_if_f o.1] at hx
      rw [bgn_f o.1] at HP
      refine ⟨fun z => absurd hx z, fun _ => ⟨⟨by omega, by omega⟩, fun z => ?_, fun _ => ?_⟩⟩
      · rcases z with z | z
        · exact absurd o.2.1 z
        · omega
      · intro y hy
        rw [rh_if_f (by rw [hx]; decide)] at hy
        rw [hy]
        refine ⟨⟨by omega, by omega⟩, ⟨by omega, by omega⟩, ?_⟩
        rw [show ((q + 1 : Nat) : Int) - bgn v q = (q : Int) - bgn v q + 1 by omega] at HP
        exact HP
theorem m_wordsT (hm : rh_ms wm) {v : Int → Int} {N q : Nat} (hN : N ≤ 4096) (M : rhM) (h2 : M 0 2 = N) (hv : ∀ k : Int, 0 ≤ k → k < N → M 1 k = v k) (F : Flt v N q) (P : Int → rhM → Prop) (HP : P (-1000 - (q : Int)) (rh_set M 0 2 0)) : rh1 wm YX32_words 2 9 [(0, 2, 0), (1, 0, 0), (2, 0, 0)] [] M P := by
  obtain ⟨q0, ok, fl⟩ := F
  refine rh1.s (m_wordsS hm hN M h2 hv q q0 ok) ?_
  have bb := bgn_b (v := v) q
  have bs := (okW_s (v := v) q ok).1
  refine rh1.of (rX32_words_9 hm _ _ _ ?_)
  rw [h2]
  rcases fl with ⟨f1, f2⟩ | ⟨f1, f2⟩
  · rw [hv q (by omega) (by omega)]
    refine ⟨fun _ => ⟨⟨by omega, by omega⟩, ?_⟩, fun z => by omega⟩
    intro x hx
    by_cases z : v q = 59
    · rw [rh_if_t z] at hx
      refine ⟨fun _ => ⟨fun _ => ⟨⟨by omega, by omega⟩, HP⟩, fun y => absurd ?_ y⟩, fun y => by omega⟩
      have : ¬ bgn v q < q := fun y => f2 (.inl ⟨z, y⟩)
      omega
    · rw [rh_if_f z] at hx
      refine ⟨fun y => absurd hx y, fun _ => ⟨⟨by omega, by omega⟩, fun _ => ⟨⟨by omega, by omega⟩, HP⟩, fun y => absurd ?_ y⟩⟩
      by_cases y2 : 33 ≤ v q ∧ v q ≤ 126
      · refine .inr ?_
        have : ¬ (q : Int) - bgn v q < 12 := fun y3 => f2 (.inr ⟨z, y2, y3⟩)
        omega
      · exact .inl y2
  · rw [f1] at HP bb ⊢
    refine ⟨fun z => by omega, fun _ => ⟨fun _ => ⟨⟨by omega, by omega⟩, HP⟩, fun y => absurd ?_ y⟩⟩
    rcases f2 with f | f
    · exact .inl (by omega)
    · exact .inr (by omega)
theorem m_wordsE (hm : rh_ms wm) {v : Int → Int} {N : Nat} (hN : N ≤ 4096) (M : rhM) (h2 : M 0 2 = N) (hv : ∀ k : Int, 0 ≤ k → k < N → M 1 k = v k) (ok : ∀ k : Nat, k < N → okW v k) (n0 : 0 < N) (hb : bgn v N = N) : eS wm YX32_words 2 9 [(0, 2, 0), (1, 0, 0), (2, 0, 0)] [] M 117 [(0, 2, 0), (2, 0, M 0 120), (3, 0, 0), (4, 0, 0)] [] M := by
  refine (m_wordsS hm hN M h2 hv N (Nat.le_refl _) ok).tr (eS.of (fun P HP => ?_))
  refine rh1.of (rX32_words_9 hm _ _ _ ?_)
  rw [h2, hb]
  exact ⟨fun z => by omega, fun _ => ⟨fun z => by omega, fun _ => HP⟩⟩
theorem hs_by65 (hh : rh_hs wh) : rh_ar wh 65 .byte 1800 := rh_hs_ar hh 65 (by decide) rfl
/-- the word asked for comes to the list -/
theorem c_rowCopy (hh : rh_hs wh) {c n : Int} (hc : 0 ≤ c ∧ c < 150) (hn : 0 ≤ n ∧ n ≤ 12) (M : rhM) (h : M 69 0 = n) : eC wh YX19_copy 1 [(2, 64), (0, c), (2, 67), (0, 0)] M 0 (rh_set (rh_cpy M 68 0 65 (12 * c) 12) 66 c n) := by
  refine eC.of1 (rC1.of (by decide) (LE0 rfl) ?_)
  refine rh1.of (rX19_copy_0 hh _ _ _ _ _ _ _ (hs_rw64 hh) (hs_rw67 hh) ?_)
  refine rh1.s (vX19_copy_18 (ty := .byte) (tt := 1) (n0 := 12) (n1 := 1800) rfl rfl rfl (hs_by68 hh) (hs_by65 hh) rfl rfl rfl (by omega) (by omega) (by omega) (by omega) (by omega) (by decide) (by decide) (LE0 rfl)) ?_
  refine rh1.of (rX19_copy_21 hh _ _ _ _ _ _ _ (hs_rw64 hh) (hs_rw67 hh) ?_)
  have e : rh_cpy M (67 + 1) (12 * 0) (64 + 1) (12 * c) 12 (67 + 2) 0 = n := by rw [rh_cpy_a (by decide)]; exact h
  rw [e]
  exact ⟨⟨by omega, by omega⟩, hc, ⟨by omega, by omega⟩, rfl, rfl⟩
/-- the list with one more -/
theorem m_add (hm : rh_ms wm) {h0 f k n c : Int} (hf : 0 ≤ f) (hn : 0 ≤ n ∧ n ≤ 12) (hk : k = f + n) (hk2 : k < 4096) (hc : 0 ≤ c ∧ c < 150) (M : rhM) (h : M 0 120 = c) : ∃ B, eS wm YX32_words 2 184 [(0, 2, 0), (2, 0, h0), (3, 0, f), (4, 0, k), (5, 0, n), (6, 0, 0)] [] M 117 [(0, 2, 0), (2, 0, h0), (3, 0, k + 1), (4, 0, k + 1)] [] B ∧ frx (fun a j => (a = 0 ∧ j = 120) ∨ (a = 88 ∧ 12 * c ≤ j ∧ j < 12 * c + 12) ∨ (a = 89 ∧ j = c)) M B ∧ B 0 120 = c + 1 ∧ B 89 c = n ∧ ∀ t, 0 ≤ t → t < n → B 88 (12 * c + t) = M 1 (f + t) := by
  have w : ∀ (m : Nat) (i : Int) (A : rhM), i + m = n → 0 ≤ i → frx (fun a j => a = 88 ∧ 12 * c ≤ j ∧ j < 12 * c + 12) M A → (∀ t, 0 ≤ t → t < i → A 88 (12 * c + t) = M 1 (f + t)) → ∃ B, eS wm YX32_words 2 184 [(0, 2, 0), (2, 0, h0), (3, 0, f), (4, 0, k), (5, 0, n), (6, 0, i)] [] A 117 [(0, 2, 0), (2, 0, h0), (3, 0, k + 1), (4, 0, k + 1)] [] B ∧ frx (fun a j => (a = 0 ∧ j = 120) ∨ (a = 88 ∧ 12 * c ≤ j ∧ j < 12 * c + 12) ∨ (a = 89 ∧ j = c)) M B ∧ B 0 120 = c + 1 ∧ B 89 c = n ∧ ∀ t, 0 ≤ t → t < n → B 88 (12 * c + t) = M 1 (f + t) := by
    intro m
    induction m with
    | zero =>
      intro i A hi i0 fA hA
      refine ⟨rh_set (rh_set A 89 c n) 0 120 (c + 1), eS.of (fun P HP => ?_), ((fA.w (fun a j h => .inr (.inl h))).st (by omega)).st (by omega), rh_set_s _ _ _ _, by rw [rh_set_a (by decide), rh_set_s], fun t t0 t1 => by rw [rh_set_a (by decide), rh_set_a (by decide)]; exact hA t t0 (by omega)⟩
      refine rh1.of (rX32_words_184 hm _ _ _ _ _ _ ?_)
      rw [fA 0 120 (by omega), h]
      refine ⟨fun z => by omega, fun _ => ⟨⟨by omega, by omega⟩, ?_⟩⟩
      intro M3 e3
      have e4 : M3 0 120 = c := by rw [e3, rh_set_a (by decide), fA 0 120 (by omega)]; exact h
      rw [e4, e3]
      exact ⟨⟨by omega, by omega⟩, ⟨by omega, by omega⟩, ⟨by omega, by omega⟩, HP⟩
    | succ m ih =>
      intro i A hi i0 fA hA
      obtain ⟨B, E, r⟩ := ih (i + 1) (rh_set A 88 (12 * c + i) (M 1 (f + i))) (by omega) (by omega) (fA.st (by omega)) (fun t t0 t1 => by
        by_cases e : t = i
        · rw [e, rh_set_s]
        · rw [rh_set_j (by omega)]; exact hA t t0 (by omega))
      refine ⟨B, eS.of (fun P HP => ?_), r⟩
      refine rh1.of (rX32_words_184 hm _ _ _ _ _ _ ?_)
      rw [fA 0 120 (by omega), h, fA 1 _ (by omega)]
      exact ⟨fun _ => ⟨⟨by omega, by omega⟩, ⟨by omega, by omega⟩, ⟨by omega, by omega⟩, rh1.s E HP⟩, fun z => by omega⟩
  exact w n.toNat 0 M (by omega) (by omega) frx.rf (fun t t0 t1 => by omega)
/-- both go through the words -/
def Fwl (c j : Int) : Prop := c = 65 ∨ c = 66 ∨ c = 68 ∨ c = 69 ∨ (c = 63 ∧ j = 1)
def Gwl (c j : Int) : Prop := c = 88 ∨ c = 89 ∨ (c = 0 ∧ j = 120)
theorem w_loop (hh : rh_hs wh) (hm : rh_ms wm) {v : Int → Int} {N : Nat} {h0 : Int} (hN : N ≤ 4096) (Mh Mm : rhM) (hvh : ∀ k : Int, 0 ≤ k → k < N → rh_and (Mh 2 k) 255 = v k ∧ (0 ≤ v k ∧ v k ≤ 255) ∧ -128 ≤ Mh 2 k ∧ Mh 2 k ≤ 127) (hm2 : Mm 0 2 = N) (hvm : ∀ k : Int, 0 ≤ k → k < N → Mm 1 k = v k) (ok : ∀ k : Nat, k < N → okW v k) : ∀ (m k : Nat) (A B : rhM), k + m = N → Rwl A B → 0 ≤ h0 → h0 ≤ B 0 120 → frx Fwl Mh A → frx Gwl Mm B →
    ∃ r A' B', (∀ P : Int → rhM → Prop, P r A' → rh1 wh YX18_read 3 108 [(0, 2, 63), (1, 2, 1), (2, 0, (N : Int)), (3, 0, bgn v k), (4, 0, h0), (5, 0, (k : Int))] [] A P) ∧ (∀ P : Int → rhM → Prop, P r (rh_set B' 0 2 0) → rh1 wm YX32_words 2 117 [(0, 2, 0), (2, 0, h0), (3, 0, bgn v k), (4, 0, (k : Int))] [] B P) ∧ Rwl A' B' ∧ (0 ≤ r ∨ r = -104) ∧ frx Fwl Mh A' ∧ frx Gwl Mm B' := by
  intro m
  induction m with
  | zero =>
    intro k A B hk R g0 g1 fA fB
    have e : k = N := (by omega)
    refine ⟨B 0 120, A, B, fun P HP => ?_, fun P HP => ?_, R, .inl R.2.1.1, fA, fB⟩
    · refine rh1.of (rX18_read_108 hh _ _ _ _ _ ?_)
      rw [R.1]
      exact ⟨fun z => by omega, fun _ => HP⟩
    · refine rh1.of (rX32_words_117 hm _ _ _ _ ?_)
      rw [fB 0 2 (by unfold Gwl; omega), hm2]
      exact ⟨fun z => by omega, fun _ => HP⟩
  | succ m ih =>
    intro k A B hk R g0 g1 fA fB
    obtain ⟨y1, y2, y3⟩ := hvh k (by omega) (by omega)
    have bb := bgn_b (v := v) k
    obtain ⟨s1, s2⟩ := okW_s (v := v) k (fun j hj => ok j (by omega))
    have e2 : A 2 k = 59 ↔ v k = 59 := by
      rw [fA 2 k (by unfold Fwl; omega), ← y1]
      exact (by_p y3 ⟨by omega, by omega⟩).symm
    have em : B 1 k = v k := by rw [fB 1 k (by unfold Gwl; omega)]; exact hvm k (by omega) (by omega)
    have e02 : B 0 2 = N := by rw [fB 0 2 (by unfold Gwl; omega)]; exact hm2
    by_cases z : v k = 59
    · have sz : 1 ≤ (k : Int) - bgn v k := by
        rcases ok k (by omega) with o | o
        · omega
        · exact absurd z o.1
      obtain ⟨n, hn⟩ : ∃ n, n = (k : Int) - bgn v k := ⟨_, rfl⟩
      have K1 := c_ask hh (f := bgn v k) (n := n) ⟨by omega, by omega⟩ ⟨by omega, by omega⟩ A
      obtain ⟨A1, hA1⟩ : ∃ A1, A1 = m_ask A (bgn v k) n := ⟨_, rfl⟩
      rw [← hA1] at K1
      have fA1 : frx (fun c _ => c = 68 ∨ c = 69) A A1 := by rw [hA1]; exact (frx.rf.cpy (fun j _ _ => (by omega))).st (by omega)
      have a69 : A1 69 0 = n := by rw [hA1]; exact rh_set_s _ _ _ _
      have a68 : ∀ t, 0 ≤ t → t < n → A1 68 t = Mh 2 (bgn v k + t) := fun t t0 t1 => by
        rw [hA1]
        unfold m_ask rh_cpy
        rw [rh_set_a (by decide), if_pos rfl, if_pos (by omega), fA 2 _ (by unfold Fwl; omega)]
        congr 1
        omega
      obtain ⟨C, hC, hC1⟩ := R.n
      obtain ⟨w1, w2, w3⟩ := R
      rw [hC] at w1 w3 g1
      have Kh := c_findW hh (j := 0) (N := C) (hs_rw67 hh) ⟨by omega, by omega⟩ A1 (by rw [fA1 63 1 (by omega)]; exact w1) hC1 (fun i i0 i1 => by
        obtain ⟨u1, u2, u3⟩ := w3 i i0 i1
        rw [fA1 66 i (by omega), u1]
        refine ⟨u2, fun t t0 t1 => ?_⟩
        rw [fA1 65 _ (by omega), (u3 t t0 t1).1]
        exact (u3 t t0 t1).2) ⟨by show 0 ≤ A1 69 0 ∧ A1 69 0 ≤ 12; rw [a69]; exact ⟨by omega, by omega⟩, fun t t0 t1 => by
          have t2 : t < n := by have e : A1 (67 + 2) 0 = n := a69; omega
          show -128 ≤ A1 68 (12 * 0 + t) ∧ A1 68 (12 * 0 + t) ≤ 127
          rw [show 12 * 0 + t = t by omega, a68 t t0 t2]
          exact (hvh _ (by omega) (by omega)).2.2⟩
      have Km := c_findListed hm (x := 1) (f := bgn v k) (n := n) (N := C) (ms_in6 hm) ⟨by omega, by omega⟩ B hC hC1 (fun i i0 i1 => (w3 i i0 i1).2.1)
      have hs : ∀ t, 0 ≤ t → t < n → Mh 2 (bgn v k + t) = v (bgn v k + t) ∧ 33 ≤ v (bgn v k + t) ∧ v (bgn v k + t) ≤ 126 := fun t t0 t1 => by
        obtain ⟨z1, z2, z3⟩ := hvh (bgn v k + t) (by omega) (by omega)
        obtain ⟨x1, x2⟩ := s2 (bgn v k + t) (by omega) (by omega)
        exact ⟨(by_p z3 ⟨by omega, by omega⟩).mp z1, x2⟩
      have ef : fwd (Ewh A1 67 0) C 0 = fwd (Ewm B 1 (bgn v k) n) C 0 := by
        refine fwd_cg C 0 (fun i i0 i1 => ?_)
        obtain ⟨u1, u2, u3⟩ := w3 i i0 (by omega)
        unfold Ewh Ewm
        rw [fA1 66 i (by omega), u1, show A1 (67 + 2) 0 = n from a69]
        have H : B 89 i = n → ∀ t, 0 ≤ t → t < n → (A1 65 (12 * i + t) = A1 (67 + 1) (12 * 0 + t) ↔ B 88 (12 * i + t) = B 1 (bgn v k + t)) := fun e t t0 t1 => by
          rw [show A1 (67 + 1) (12 * 0 + t) = v (bgn v k + t) from by rw [show 12 * 0 + t = t by omega]; exact (a68 t t0 t1).trans (hs t t0 t1).1, fA1 65 _ (by omega), (u3 t t0 (by omega)).1, fB 1 _ (by unfold Gwl; omega), hvm _ (by omega) (by omega)]
        exact ⟨fun h => ⟨h.1, fun t t0 t1 => (H h.1 t t0 t1).mp (h.2 t t0 (by omega))⟩, fun h => ⟨h.1, fun t t0 t1 => (H h.1 t t0 (by omega)).mpr (h.2 t t0 (by omega))⟩⟩
      rw [ef] at Kh
      have fAM : frx Fwl Mh A1 := fA.tr (fA1.w (fun c j h => by unfold Fwl; omega))
      generalize fwd (Ewm B 1 (bgn v k) n) C 0 = r at Kh Km
      have EH : ∀ P : Int → rhM → Prop, rh1 wh YX18_read 3 152 [(0, 2, 63), (1, 2, 1), (2, 0, (N : Int)), (4, 0, h0), (5, 0, (k : Int))] [(0, r)] A1 P → rh1 wh YX18_read 3 108 [(0, 2, 63), (1, 2, 1), (2, 0, (N : Int)), (3, 0, bgn v k), (4, 0, h0), (5, 0, (k : Int))] [] A P := by
        intro P HP
        refine rh1.of (rX18_read_108 hh _ _ _ _ _ ?_)
        refine ⟨fun _ => ⟨⟨by omega, by omega⟩, fun _ => ?_, fun y => absurd (e2.mpr z) y⟩, fun y => by omega⟩
        rw [← hn]
        refine rh1.s (eS.fx 0 (x := n) rfl ⟨by omega, by omega⟩ rfl) ?_
        refine rh1.s (vX18_read_140 (hs_rw67 hh) K1 (LE0 rfl)) ?_
        refine rh1.of (rX18_read_143 hh _ _ _ _ ?_)
        exact rh1.s (vX18_read_149 hh Kh (LE0 rfl)) HP
      have EM : ∀ P : Int → rhM → Prop, rh1 wm YX32_words 2 155 [(0, 2, 0), (2, 0, h0), (3, 0, bgn v k), (4, 0, (k : Int)), (5, 0, n)] [(0, r)] B P → rh1 wm YX32_words 2 117 [(0, 2, 0), (2, 0, h0), (3, 0, bgn v k), (4, 0, (k : Int))] [] B P := by
        intro P HP
        refine rh1.of (rX32_words_117 hm _ _ _ _ ?_)
        rw [e02, em, ← hn]
        refine ⟨fun _ => ⟨⟨by omega, by omega⟩, fun _ => ⟨⟨by omega, by omega⟩, ?_⟩, fun y => absurd z y⟩, fun y => by omega⟩
        exact rh1.s (vX32_words_152 hm Km (LE0 rfl)) HP
      by_cases q : r = -1
      · by_cases full : C = 150
        · refine ⟨-104, rh_set A1 63 1 h0, rh_set B 0 120 h0, fun P HP => EH P ?_, fun P HP => EM P ?_, ?_, .inr rfl, fAM.st (by unfold Fwl; omega), fB.st (by unfold Gwl; omega)⟩
          · refine rh1.of (rX18_read_152 hh _ _ _ _ _ ?_)
            rw [fA1 63 1 (by omega), w1]
            exact ⟨fun _ => ⟨fun _ => HP, fun y => by omega⟩, fun y => absurd q y⟩
          · refine rh1.of (rX32_words_155 hm _ _ _ _ _ _ ?_)
            rw [hC]
            exact ⟨fun _ => ⟨fun _ => HP, fun y => by omega⟩, fun y => absurd q y⟩
          · refine ⟨by rw [rh_set_s, rh_set_s], by rw [rh_set_s]; exact ⟨by omega, by omega⟩, fun i i0 i1 => ?_⟩
            rw [rh_set_s] at i1
            obtain ⟨u1, u2, u3⟩ := w3 i i0 (by omega)
            rw [rh_set_a (by decide), rh_set_a (by decide), fA1 66 i (by omega)]
            refine ⟨u1, u2, fun t t0 t1 => ?_⟩
            rw [rh_set_a (by decide), rh_set_a (by decide), fA1 65 _ (by omega)]
            exact u3 t t0 t1
        · have K3 := c_rowCopy hh (c := C) (n := n) ⟨by omega, by omega⟩ ⟨by omega, by omega⟩ (rh_set A1 63 1 ((C : Int) + 1)) (by rw [rh_set_a (by decide)]; exact a69)
          obtain ⟨B2, EB2, fB2, c1, c2, c3⟩ := m_add hm (h0 := h0) (f := bgn v k) (k := (k : Int)) (n := n) (c := C) (by omega) ⟨by omega, by omega⟩ (by omega) (by omega) ⟨by omega, by omega⟩ B hC
          obtain ⟨A2, hA2⟩ : ∃ A2, A2 = rh_set (rh_cpy (rh_set A1 63 1 ((C : Int) + 1)) 68 0 65 (12 * (C : Int)) 12) 66 C n := ⟨_, rfl⟩
          rw [← hA2] at K3
          have fA2 : frx (fun a j => (a = 63 ∧ j = 1) ∨ (a = 65 ∧ 12 * (C : Int) ≤ j ∧ j < 12 * (C : Int) + 12) ∨ (a = 66 ∧ j = C)) A1 A2 := by
            rw [hA2]
            exact ((frx.rf.st (by omega)).cpy (fun j _ _ => (by omega))).st (by omega)
          have v63 : A2 63 1 = (C : Int) + 1 := by rw [hA2, rh_set_a (by decide), rh_cpy_a (by decide), rh_set_s]
          have v66 : A2 66 C = n := by rw [hA2, rh_set_s]
          have v65 : ∀ t, 0 ≤ t → t < n → A2 65 (12 * (C : Int) + t) = v (bgn v k + t) := fun t t0 t1 => by
            rw [hA2, rh_set_a (by decide)]
            unfold rh_cpy
            rw [if_pos rfl, if_pos (by omega), rh_set_a (by decide), show (0 : Int) + (12 * (C : Int) + t - 12 * (C : Int)) = t by omega, a68 t t0 t1]
            exact (hs t t0 t1).1
          have R2 : Rwl A2 B2 := by
            refine ⟨by rw [v63, c1], by rw [c1]; exact ⟨by omega, by omega⟩, fun i i0 i1 => ?_⟩
            rw [c1] at i1
            by_cases e : i = C
            · rw [e, v66, c2]
              refine ⟨rfl, ⟨by omega, by omega⟩, fun t t0 t1 => ?_⟩
              rw [v65 t t0 t1, c3 t t0 t1, fB 1 _ (by unfold Gwl; omega), hvm _ (by omega) (by omega)]
              exact ⟨rfl, (hs t t0 t1).2⟩
            · obtain ⟨u1, u2, u3⟩ := w3 i i0 (by omega)
              rw [fA2 66 i (by omega), fB2 89 i (by omega), fA1 66 i (by omega)]
              refine ⟨u1, u2, fun t t0 t1 => ?_⟩
              rw [fA2 65 _ (by omega), fB2 88 _ (by omega), fA1 65 _ (by omega)]
              exact u3 t t0 t1
          obtain ⟨r', A', B', E1, E2, rr⟩ := ih (k + 1) A2 B2 (by omega) R2 g0 (by omega) (fAM.tr (fA2.w (fun c j h => by unfold Fwl; omega))) (fB.tr (fB2.w (fun c j h => by unfold Gwl; omega)))
          rw [bgn_t z] at E1 E2
          refine ⟨r', A', B', fun P HP => EH P ?_, fun P HP => EM P ?_, rr⟩
          · refine rh1.of (rX18_read_152 hh _ _ _ _ _ ?_)
            rw [fA1 63 1 (by omega), w1]
            refine ⟨fun _ => ⟨fun y => by omega, fun _ => ⟨⟨by omega, by omega⟩, ?_⟩⟩, fun y => absurd q y⟩
            refine rh1.s (vX18_read_195 (hs_rw64 hh) K3 (LE0 rfl)) ?_
            refine rh1.of (rX18_read_198 hh _ _ _ _ ?_)
            exact ⟨⟨by omega, by omega⟩, ⟨by omega, by omega⟩, E1 P HP⟩
          · refine rh1.of (rX32_words_155 hm _ _ _ _ _ _ ?_)
            rw [hC]
            refine ⟨fun _ => ⟨fun y => by omega, fun _ => ?_⟩, fun y => absurd q y⟩
            exact rh1.s EB2 (E2 P HP)
      · have R1 : Rwl A1 B := by
          refine ⟨by rw [fA1 63 1 (by omega), w1, hC], by rw [hC]; exact ⟨by omega, by omega⟩, fun i i0 i1 => ?_⟩
          rw [hC] at i1
          obtain ⟨u1, u2, u3⟩ := w3 i i0 i1
          rw [fA1 66 i (by omega)]
          refine ⟨u1, u2, fun t t0 t1 => ?_⟩
          rw [fA1 65 _ (by omega)]
          exact u3 t t0 t1
        obtain ⟨r', A', B', E1, E2, rr⟩ := ih (k + 1) A1 B (by omega) R1 g0 (by rw [hC]; exact g1) fAM fB
        rw [bgn_t z] at E1 E2
        refine ⟨r', A', B', fun P HP => EH P ?_, fun P HP => EM P ?_, rr⟩
        · refine rh1.of (rX18_read_152 hh _ _ _ _ _ ?_)
          exact ⟨fun y => absurd y q, fun _ => ⟨⟨by omega, by omega⟩, ⟨by omega, by omega⟩, E1 P HP⟩⟩
        · refine rh1.of (rX32_words_155 hm _ _ _ _ _ _ ?_)
          exact ⟨fun y => absurd y q, fun _ => ⟨⟨by omega, by omega⟩, ⟨by omega, by omega⟩, E2 P HP⟩⟩
    · obtain ⟨r, A', B', E1, E2, rr⟩ := ih (k + 1) A B (by omega) R g0 g1 fA fB
      rw [bgn_f z] at E1 E2
      refine ⟨r, A', B', fun P HP => ?_, fun P HP => ?_, rr⟩
      · refine rh1.of (rX18_read_108 hh _ _ _ _ _ ?_)
        exact ⟨fun _ => ⟨⟨by omega, by omega⟩, fun y => absurd (e2.mp y) z, fun _ => ⟨⟨by omega, by omega⟩, E1 P HP⟩⟩, fun y => by omega⟩
      · refine rh1.of (rX32_words_117 hm _ _ _ _ ?_)
        rw [e02, em]
        exact ⟨fun _ => ⟨⟨by omega, by omega⟩, fun y => absurd y z, fun _ => ⟨⟨by omega, by omega⟩, E2 P HP⟩⟩, fun y => by omega⟩
end WordsR
