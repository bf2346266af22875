/-! ===== LAYER 2: ruled pages: rules across and down (printed by gen2/gen_f2.py from f2.head) ===== -/
section Rules
variable {wh wm : rhW}
theorem hs_206 (hh : rh_hs wh) : rh_bl wh 6 206 2 := rh_bl.of (o := 206) (m := 2) hh (by decide +kernel)
theorem hs_207 (hh : rh_hs wh) : rh_bl wh 6 207 256 := rh_bl.of (o := 207) (m := 256) hh (by decide +kernel)
/-- black at place k of row (column) i -/
def Bkw (B : rhM) (p way i k : Int) : Prop := Bkp B p (rh_if (way = 0) k i) (rh_if (way = 0) i k)
theorem c_rbH (hh : rh_hs wh) {A B : rhM} (R : Rpg A B) {p way i k : Int} (hp : 0 ≤ p ∧ p < 8) : eC wh YX24_isBlack 2 [(2, 251 + 39 * p), (0, way), (0, i), (0, k)] A (rh_if (Bkw B p way i k) 1 0) A := by
  have hb := hs_pg hh hp.1 hp.2
  have Q := (R p hp.1 hp.2).1
  refine eC.of1 (rC1.of (by decide) (LE0 rfl) ?_)
  refine rh1.of (rX24_isBlack_0 hh _ _ _ _ _ hb ?_)
  have b1 := blk_h (u := k) (v := i) Q
  have b2 := blk_h (u := i) (v := k) Q
  have e : rh_if (way = 0) (rh_if (((0 ≤ k) ∧ ((k < (A (251 + 39 * p) 1)) ∧ ((0 ≤ i) ∧ (i < (A (251 + 39 * p) 2))))) ∧ ((rh_and (A (251 + 39 * p + 1) (((A (251 + 39 * p) 1) * i) + k)) 255) < 128)) (1 : Int) 0) (rh_if (((0 ≤ i) ∧ ((i < (A (251 + 39 * p) 1)) ∧ ((0 ≤ k) ∧ (k < (A (251 + 39 * p) 2))))) ∧ ((rh_and (A (251 + 39 * p + 1) (((A (251 + 39 * p) 1) * k) + i)) 255) < 128)) (1 : Int) 0) = rh_if (Bkw B p way i k) 1 0 := by
    unfold Bkw
    by_cases w : way = 0
    · rw [rh_if_t w, rh_if_t w, rh_if_t w, b1]
    · rw [rh_if_f w, rh_if_f w, rh_if_f w, b2]
  rw [e]
  refine ⟨fun _ z => by have := blk_r Q z; exact ⟨by omega, by omega⟩, fun _ z => blk_r Q z, fun _ z => by have := blk_r Q z; exact ⟨by omega, by omega⟩, fun _ z => blk_r Q z, by rcases if01 (Bkw B p way i k) with z | z <;> rw [z] <;> decide, rfl, rfl⟩
theorem c_rbM (hm : rh_ms wm) {A B : rhM} (R : Rpg A B) {p way i k t : Int} (hp : 0 ≤ p ∧ p < 8) (wt : (way = 0 ∧ t = 1) ∨ (way = 1 ∧ t = 0)) : eC wm YX32_isBlack 1 [(2, 0), (0, p), (0, rh_if (t ≠ 0) k i), (0, rh_if (t ≠ 0) i k)] B (rh_if (Bkw B p way i k) 1 0) B := by
  obtain ⟨q1, q2, q3, q4, q5, q6, q7, q8, -⟩ := id (R p hp.1 hp.2).1
  have K := fun x y => c_blkM hm (x := x) (y := y) hp B ⟨q3, q7, q8⟩
  unfold Bkw
  rcases wt with ⟨rfl, rfl⟩ | ⟨rfl, rfl⟩
  · rw [rh_if_t (show (1 : Int) ≠ 0 by decide), rh_if_t (show (1 : Int) ≠ 0 by decide), rh_if_t rfl, rh_if_t rfl]; exact K k i
  · rw [rh_if_f (show ¬ (0 : Int) ≠ 0 by decide), rh_if_f (show ¬ (0 : Int) ≠ 0 by decide), rh_if_f (show ¬ (1 : Int) = 0 by decide), rh_if_f (show ¬ (1 : Int) = 0 by decide)]; exact K i k
theorem t_isRule (hh : rh_hs wh) (hm : rh_ms wm) {A B : rhM} (R : Rpg A B) {p way i n t : Int} (hp : 0 ≤ p ∧ p < 8) (hn : 8 ≤ n ∧ n ≤ 128) (wt : (way = 0 ∧ t = 1) ∨ (way = 1 ∧ t = 0)) : ∃ v, (v = 0 ∨ v = 1) ∧ eC wh YX24_isRule 3 [(2, 251 + 39 * p), (0, way), (0, i), (0, n)] A v A ∧ eC wm YX32_isRule 2 [(2, 0), (0, p), (0, i), (0, t), (0, n)] B v B := by
  have hb := hs_pg hh hp.1 hp.2
  obtain ⟨q1, q2, q3, q4, q5, q6, q7, q8, -⟩ := id (R p hp.1 hp.2).1
  obtain ⟨N, hN⟩ : ∃ N, N = rh_if (way = 0) (B 4 p) (B 5 p) := ⟨_, rfl⟩
  have N1 : 0 ≤ N ∧ N ≤ 128 := by
    rw [hN]
    by_cases w : way = 0
    · rw [rh_if_t w]; omega
    · rw [rh_if_f w]; omega
  have hN2 : rh_if (t ≠ 0) (B 4 p) (B 5 p) = N := by
    rw [hN]
    rcases wt with ⟨rfl, rfl⟩ | ⟨rfl, rfl⟩
    · rw [rh_if_t (by decide), rh_if_t rfl]
    · rw [rh_if_f (by decide), rh_if_f (by decide)]
  have KH := fun k => c_rbH hh R (p := p) (way := way) (i := i) (k := k) hp
  have KM := fun k => c_rbM hm R (p := p) (way := way) (i := i) (k := k) (t := t) hp wt
  have step : ∀ (k m L x : Int) (P : Int → rhM → Prop), x = rh_if (Bkw B p way i k) 1 0 → k < N → (0 ≤ k ∧ 0 ≤ m ∧ m ≤ 1000) → rh1 wh YX24_isRule 3 9 [(0, 2, 251 + 39 * p), (1, 0, way), (2, 0, i), (3, 0, n), (4, 0, rh_if (x ≠ 0) (m + 1) 0), (5, 0, rh_if (L < rh_if (x ≠ 0) (m + 1) 0) (rh_if (x ≠ 0) (m + 1) 0) L), (6, 0, k + 1)] [] A P → rh1 wh YX24_isRule 3 9 [(0, 2, 251 + 39 * p), (1, 0, way), (2, 0, i), (3, 0, n), (4, 0, m), (5, 0, L), (6, 0, k)] [] A P := fun k m L x P hx kN hk HP => by
    refine rh1.of (rX24_isRule_9 hh _ _ _ _ _ _ _ _ hb ?_)
    rw [q1, q2, ← hN]
    refine ⟨fun _ => rh1.s (vX24_isRule_34 (KH k) (LE0 rfl)) ?_, fun z => absurd kN z⟩
    refine rh1.of (rX24_isRule_37 hh _ _ _ _ _ _ _ _ _ hb ?_)
    rw [← hx]
    (intro zq hzq; replace hzq := hzq.symm; subst hzq)
    refine ⟨?_, ?_⟩
    · by_cases z : x ≠ 0
      · rw [rh_if_t z]; exact ⟨by omega, by omega⟩
      · rw [rh_if_f z]; exact ⟨by omega, by omega⟩
    (intro zq hzq; replace hzq := hzq.symm; subst hzq)
    exact ⟨⟨by omega, by omega⟩, HP⟩
  have m01 : ∀ (x m : Int), 0 ≤ m → 0 ≤ rh_if (x ≠ 0) (m + 1) (0 : Int) ∧ rh_if (x ≠ 0) (m + 1) (0 : Int) ≤ m + 1 := fun x m h => by
    by_cases z : x ≠ 0
    · rw [rh_if_t z]; omega
    · rw [rh_if_f z]; omega
  have don : ∀ (u : Nat) (k m L : Int), k + u = N → 0 ≤ k → (0 ≤ m ∧ m ≤ k) → n ≤ L → ∀ P : Int → rhM → Prop, P 1 A → rh1 wh YX24_isRule 3 9 [(0, 2, 251 + 39 * p), (1, 0, way), (2, 0, i), (3, 0, n), (4, 0, m), (5, 0, L), (6, 0, k)] [] A P := by
    intro u
    induction u with
    | zero =>
      intro k m L hk k0 hm' hL P HP
      refine rh1.of (rX24_isRule_9 hh _ _ _ _ _ _ _ _ hb ?_)
      rw [q1, q2, ← hN, rh_if_t hL]
      exact ⟨fun z => by omega, fun _ => HP⟩
    | succ u ih =>
      intro k m L hk k0 hm' hL P HP
      obtain ⟨x, hx⟩ : ∃ x, x = rh_if (Bkw B p way i k) (1 : Int) 0 := ⟨_, rfl⟩
      have b := m01 x m hm'.1
      refine step k m L x P hx (by omega) ⟨by omega, by omega, by omega⟩ (ih (k + 1) _ _ (by omega) (by omega) ⟨by omega, by omega⟩ ?_ P HP)
      by_cases z : L < rh_if (x ≠ 0) (m + 1) (0 : Int)
      · rw [rh_if_t z]; omega
      · rw [rh_if_f z]; exact hL
  have key : ∀ (u : Nat) (k m L : Int), k + u = N → 0 ≤ k → (0 ≤ m ∧ m ≤ k ∧ m < n) → (0 ≤ L ∧ L < n) → ∃ v, (v = 0 ∨ v = 1) ∧ (∀ P : Int → rhM → Prop, P v A → rh1 wh YX24_isRule 3 9 [(0, 2, 251 + 39 * p), (1, 0, way), (2, 0, i), (3, 0, n), (4, 0, m), (5, 0, L), (6, 0, k)] [] A P) ∧ (∀ P : Int → rhM → Prop, P v B → rh1 wm YX32_isRule 2 6 [(0, 2, 0), (1, 0, p), (2, 0, i), (3, 0, t), (4, 0, n), (5, 0, m), (6, 0, k)] [] B P) := by
    intro u
    induction u with
    | zero =>
      intro k m L hk k0 hm' hL
      refine ⟨0, .inl rfl, fun P HP => ?_, fun P HP => ?_⟩
      · refine rh1.of (rX24_isRule_9 hh _ _ _ _ _ _ _ _ hb ?_)
        rw [q1, q2, ← hN, rh_if_f (show ¬ n ≤ L by omega)]
        exact ⟨fun z => by omega, fun _ => HP⟩
      · refine rh1.of (rX32_isRule_6 hm _ _ _ _ _ _ _ ?_)
        rw [hN2]
        exact ⟨fun _ => ⟨by omega, by omega⟩, fun _ => ⟨by omega, by omega⟩, fun z => by omega, fun _ => HP⟩
    | succ u ih =>
      intro k m L hk k0 hm' hL
      obtain ⟨x, hx⟩ : ∃ x, x = rh_if (Bkw B p way i k) (1 : Int) 0 := ⟨_, rfl⟩
      have b := m01 x m hm'.1
      obtain ⟨m', hm2⟩ : ∃ m', m' = rh_if (x ≠ 0) (m + 1) (0 : Int) := ⟨_, rfl⟩
      rw [← hm2] at b
      have KK := KM k
      rw [← hx] at KK
      have sM : ∀ P : Int → rhM → Prop, ((m' = n → P 1 B) ∧ (m' ≠ n → rh1 wm YX32_isRule 2 6 [(0, 2, 0), (1, 0, p), (2, 0, i), (3, 0, t), (4, 0, n), (5, 0, m'), (6, 0, k + 1)] [] B P)) → rh1 wm YX32_isRule 2 6 [(0, 2, 0), (1, 0, p), (2, 0, i), (3, 0, t), (4, 0, n), (5, 0, m), (6, 0, k)] [] B P := fun P HP => by
        refine rh1.of (rX32_isRule_6 hm _ _ _ _ _ _ _ ?_)
        rw [hN2]
        refine ⟨fun _ => ⟨by omega, by omega⟩, fun _ => ⟨by omega, by omega⟩, fun _ => rh1.s (vX32_isRule_52 hm KK (LE0 rfl)) ?_, fun z => by omega⟩
        refine rh1.of (rX32_isRule_55 hm _ _ _ _ _ _ _ _ ?_)
        rw [← hm2]
        (intro zq hzq; replace hzq := hzq.symm; subst hzq)
        exact ⟨⟨by omega, by omega⟩, fun z => HP.1 z, fun z => ⟨⟨by omega, by omega⟩, HP.2 z⟩⟩
      by_cases hit : m' = n
      · refine ⟨1, .inr rfl, fun P HP => step k m L x P hx (by omega) ⟨by omega, by omega, by omega⟩ ?_, fun P HP => sM P ⟨fun _ => HP, fun z => absurd hit z⟩⟩
        rw [← hm2, rh_if_t (show L < m' by omega)]
        exact don u (k + 1) m' m' (by omega) (by omega) ⟨by omega, by omega⟩ (by omega) P HP
      · have lb : 0 ≤ rh_if (L < m') m' L ∧ rh_if (L < m') m' L < n := by
          by_cases z : L < m'
          · rw [rh_if_t z]; omega
          · rw [rh_if_f z]; omega
        obtain ⟨v, hv, H1, H2⟩ := ih (k + 1) m' (rh_if (L < m') m' L) (by omega) (by omega) ⟨by omega, by omega, by omega⟩ lb
        refine ⟨v, hv, fun P HP => step k m L x P hx (by omega) ⟨by omega, by omega, by omega⟩ ?_, fun P HP => sM P ⟨fun z => absurd z hit, fun _ => H2 P HP⟩⟩
        rw [← hm2]
        exact H1 P HP
  obtain ⟨v, hv, H1, H2⟩ := key N.toNat 0 0 0 (by omega) (by decide) ⟨by decide, by decide, by omega⟩ ⟨by omega, by omega⟩
  refine ⟨v, hv, eC.of1 (rC1.of (by decide) (LE0 rfl) ?_), eC.of1 (rC1.of (by decide) (LE0 rfl) ?_)⟩
  · refine rh1.of (rX24_isRule_0 hh _ _ _ _ _ hb ?_)
    exact H1 _ ⟨rfl, rfl⟩
  · refine rh1.of (rX32_isRule_0 hm _ _ _ _ _ ?_)
    exact H2 _ ⟨rfl, rfl⟩
/-- rules of one way on both sides -/
def Rlw (A B : rhM) (W FN CF CT : Int) : Prop := A 206 W = B 0 FN ∧ (0 ≤ B 0 FN ∧ B 0 FN ≤ 64) ∧ ∀ r, 0 ≤ r → r < B 0 FN → (A 207 (128 * W + r) = B CF r ∧ A 208 (128 * W + r) = B CT r) ∧ 0 ≤ B CF r ∧ B CF r ≤ B CT r ∧ B CT r ≤ 128
def Rlv (A B : rhM) (W FN CF CT k on : Int) : Prop := A 206 W = B 0 FN ∧ (0 ≤ B 0 FN ∧ 2 * B 0 FN ≤ k + on) ∧ (on = 1 → 0 < B 0 FN) ∧ ∀ r, 0 ≤ r → r < B 0 FN → (A 207 (128 * W + r) = B CF r ∧ A 208 (128 * W + r) = B CT r) ∧ 0 ≤ B CF r ∧ B CF r ≤ B CT r ∧ B CT r < k
def Frl (W c j : Int) : Prop := (c = 206 ∧ j = W) ∨ ((c = 207 ∨ c = 208) ∧ 128 * W ≤ j ∧ j < 128 * W + 128)
theorem Rlv.fin {A B : rhM} {W FN CF CT k on : Int} (V : Rlv A B W FN CF CT k on) (hk : 0 ≤ k ∧ k ≤ 128) (ho : on = 0 ∨ on = 1) : Rlw A B W FN CF CT := by
  obtain ⟨v1, v2, v3, v4⟩ := V
  refine ⟨v1, by omega, fun r r0 r1 => ?_⟩
  have := v4 r r0 r1
  exact ⟨this.1, this.2.1, this.2.2.1, by omega⟩
theorem Rlv.no {A B : rhM} {W FN CF CT k on : Int} (V : Rlv A B W FN CF CT k on) (ho : on = 0 ∨ on = 1) : Rlv A B W FN CF CT (k + 1) 0 := by
  obtain ⟨v1, v2, v3, v4⟩ := V
  refine ⟨v1, by omega, fun z => by omega, fun r r0 r1 => ?_⟩
  have := v4 r r0 r1
  exact ⟨this.1, this.2.1, this.2.2.1, by omega⟩
theorem Rlv.new {A B A' B' : rhM} {W FN CF CT k : Int} (V : Rlv A B W FN CF CT k 0) (n1 : CF ≠ 0) (n2 : CT ≠ 0) (n3 : CF ≠ CT) (n4 : CT ≠ CF) (k0 : 0 ≤ k) (hA : A' = rh_set (rh_set (rh_set A 206 W (B 0 FN + 1)) 207 (128 * W + B 0 FN) k) 208 (128 * W + B 0 FN) k) (hB : B' = rh_set (rh_set (rh_set B CF (B 0 FN) k) 0 FN (B 0 FN + 1)) CT (B 0 FN) k) : Rlv A' B' W FN CF CT (k + 1) 1 := by
  obtain ⟨v1, v2, v3, v4⟩ := V
  obtain ⟨c, hc⟩ : ∃ c, c = B 0 FN := ⟨_, rfl⟩
  rw [← hc] at v1 v2 v3 v4 hA hB
  have b1 : B' 0 FN = c + 1 := by rw [hB, rh_set_a (Ne.symm n2), rh_set_s]
  have a1 : A' 206 W = c + 1 := by rw [hA, rh_set_a (by decide), rh_set_a (by decide), rh_set_s]
  refine ⟨by rw [a1, b1], by rw [b1]; omega, fun _ => by rw [b1]; omega, fun r r0 r1 => ?_⟩
  rw [b1] at r1
  by_cases e : r = c
  · have x1 : A' 207 (128 * W + r) = k := by rw [hA, rh_set_a (by decide), e, rh_set_s]
    have x2 : A' 208 (128 * W + r) = k := by rw [hA, e, rh_set_s]
    have y1 : B' CF r = k := by rw [hB, rh_set_a n3, rh_set_a n1, e, rh_set_s]
    have y2 : B' CT r = k := by rw [hB, e, rh_set_s]
    rw [x1, x2, y1, y2]
    exact ⟨⟨rfl, rfl⟩, k0, Int.le_refl _, by omega⟩
  · have x1 : A' 207 (128 * W + r) = A 207 (128 * W + r) := by rw [hA, rh_set_a (by decide), rh_set_j (by omega), rh_set_a (by decide)]
    have x2 : A' 208 (128 * W + r) = A 208 (128 * W + r) := by rw [hA, rh_set_j (by omega), rh_set_a (by decide), rh_set_a (by decide)]
    have y1 : B' CF r = B CF r := by rw [hB, rh_set_a n3, rh_set_a n1, rh_set_j e]
    have y2 : B' CT r = B CT r := by rw [hB, rh_set_j e, rh_set_a n2, rh_set_a n4]
    rw [x1, x2, y1, y2]
    have := v4 r r0 (by omega)
    exact ⟨this.1, this.2.1, this.2.2.1, by omega⟩
theorem Rlv.on {A B A' B' : rhM} {W FN CF CT k : Int} (V : Rlv A B W FN CF CT k 1) (n2 : CT ≠ 0) (n3 : CF ≠ CT) (n5 : 207 ≠ (208 : Int)) (k0 : 0 ≤ k) (hA : A' = rh_set A 208 (128 * W + B 0 FN - 1) k) (hB : B' = rh_set B CT (B 0 FN - 1) k) : Rlv A' B' W FN CF CT (k + 1) 1 := by
  obtain ⟨v1, v2, v3, v4⟩ := V
  obtain ⟨c, hc⟩ : ∃ c, c = B 0 FN := ⟨_, rfl⟩
  rw [← hc] at v1 v2 v3 v4 hA hB
  have b1 : B' 0 FN = c := by rw [hB, rh_set_a (Ne.symm n2)]; exact hc.symm
  have a1 : A' 206 W = c := by rw [hA, rh_set_a (by decide)]; exact v1
  refine ⟨by rw [a1, b1], by rw [b1]; omega, fun _ => by rw [b1]; exact v3 rfl, fun r r0 r1 => ?_⟩
  rw [b1] at r1
  have x1 : A' 207 (128 * W + r) = A 207 (128 * W + r) := by rw [hA, rh_set_a n5]
  have y1 : B' CF r = B CF r := by rw [hB, rh_set_a n3]
  have v := v4 r r0 r1
  by_cases e : r = c - 1
  · have x2 : A' 208 (128 * W + r) = k := by rw [hA, show 128 * W + r = 128 * W + c - 1 by omega, rh_set_s]
    have y2 : B' CT r = k := by rw [hB, e, rh_set_s]
    rw [x1, x2, y1, y2]
    exact ⟨⟨v.1.1, rfl⟩, v.2.1, by omega, by omega⟩
  · have x2 : A' 208 (128 * W + r) = A 208 (128 * W + r) := by rw [hA, rh_set_j (by omega)]
    have y2 : B' CT r = B CT r := by rw [hB, rh_set_j e]
    rw [x1, x2, y1, y2]
    exact ⟨v.1, v.2.1, v.2.2.1, by omega⟩
theorem t_rules0 (hh : rh_hs wh) (hm : rh_ms wm) {A B : rhM} (R : Rpg A B) {p n : Int} (hp : 0 ≤ p ∧ p < 8) (hn : 8 ≤ n ∧ n ≤ 128) (h0 : B 0 218 = 0) : ∃ A' B' on', eC wh YX24_findRules 4 [(2, 205), (2, 251 + 39 * p), (0, 0), (0, n)] A 0 A' ∧ eS wm YX32_ruled 4 48 [(0, 2, 0), (1, 0, p), (2, 0, n), (3, 0, 0), (4, 0, 0)] [] B 48 [(0, 2, 0), (1, 0, p), (2, 0, n), (3, 0, on'), (4, 0, B 5 p)] [] B' ∧ Rlw A' B' 0 218 169 170 ∧ frx (Frl 0) A A' ∧ frx (fun c j => c = 169 ∨ c = 170 ∨ (c = 0 ∧ j = 218)) B B' := by
  have hb := hs_pg hh hp.1 hp.2
  have h206 := hs_206 hh
  have h207 := hs_207 hh
  obtain ⟨q1, q2, q3, q4, q5, q6, q7, q8, -⟩ := id (R p hp.1 hp.2).1
  obtain ⟨N, hN⟩ : ∃ N, N = B 5 p := ⟨_, rfl⟩
  have N1 : 0 ≤ N ∧ N ≤ 128 := by omega
  have key : ∀ (u : Nat) (k on : Int) (A1 B1 : rhM), k + u = N → 0 ≤ k → (on = 0 ∨ on = 1) → Rlv A1 B1 0 218 169 170 k on → frx (Frl 0) A A1 → frx (fun c j => c = 169 ∨ c = 170 ∨ (c = 0 ∧ j = 218)) B B1 → ∃ A' B' on', (∀ P : Int → rhM → Prop, P 0 A' → rh1 wh YX24_findRules 4 13 [(0, 2, 205), (1, 2, 251 + 39 * p), (2, 0, 0), (3, 0, n), (4, 0, on), (5, 0, k)] [] A1 P) ∧ eS wm YX32_ruled 4 48 [(0, 2, 0), (1, 0, p), (2, 0, n), (3, 0, on), (4, 0, k)] [] B1 48 [(0, 2, 0), (1, 0, p), (2, 0, n), (3, 0, on'), (4, 0, N)] [] B' ∧ Rlw A' B' 0 218 169 170 ∧ frx (Frl 0) A A' ∧ frx (fun c j => c = 169 ∨ c = 170 ∨ (c = 0 ∧ j = 218)) B B' := by
    intro u
    induction u with
    | zero =>
      intro k on A1 B1 hk k0 ho V fA gB
      have e : k = N := by omega
      rw [e] at V ⊢
      refine ⟨A1, B1, on, fun P HP => ?_, eS.rf, V.fin ⟨by omega, by omega⟩ ho, fA, gB⟩
      refine rh1.of (rX24_findRules_13 hh _ _ _ _ _ _ hb ?_)
      rw [rh_if_t (show (0 : Int) = 0 from rfl), fA _ _ (by unfold Frl; omega), q2, ← hN]
      exact ⟨fun z => by omega, fun _ => HP⟩
    | succ u ih =>
      intro k on A1 B1 hk k0 ho V fA gB
      have R1 : Rpg A1 B1 := R.fx fA gB (fun p a j p0 p1 h => by unfold Frl at h; omega) (fun a j h => by omega)
      obtain ⟨v, hv, K1, K2⟩ := t_isRule hh hm R1 (p := p) (way := 0) (i := k) (n := n) (t := 1) hp hn (.inl ⟨rfl, rfl⟩)
      have lh : A1 (251 + 39 * p) 2 = N := by rw [fA _ _ (by unfold Frl; omega), q2, ← hN]
      have lm : B1 5 p = N := by rw [gB 5 p (by omega)]; exact hN.symm
      obtain ⟨v1, v2, v3, v4⟩ := id V
      have sH : ∀ P : Int → rhM → Prop, rh1 wh YX24_findRules 4 41 [(0, 2, 205), (1, 2, 251 + 39 * p), (2, 0, 0), (3, 0, n), (4, 0, on), (5, 0, k)] [(0, v)] A1 P → rh1 wh YX24_findRules 4 13 [(0, 2, 205), (1, 2, 251 + 39 * p), (2, 0, 0), (3, 0, n), (4, 0, on), (5, 0, k)] [] A1 P := fun P HP => by
        refine rh1.of (rX24_findRules_13 hh _ _ _ _ _ _ hb ?_)
        rw [rh_if_t (show (0 : Int) = 0 from rfl), lh]
        exact ⟨fun _ => rh1.s (vX24_findRules_38 K1 (LE0 rfl)) HP, fun z => by omega⟩
      have sM : ∀ P : Int → rhM → Prop, rh1 wm YX32_ruled 4 68 [(0, 2, 0), (1, 0, p), (2, 0, n), (3, 0, on), (4, 0, k)] [(0, v)] B1 P → rh1 wm YX32_ruled 4 48 [(0, 2, 0), (1, 0, p), (2, 0, n), (3, 0, on), (4, 0, k)] [] B1 P := fun P HP => by
        refine rh1.of (rX32_ruled_48 hm _ _ _ _ _ ?_)
        rw [lm]
        exact ⟨⟨by omega, by omega⟩, fun _ => rh1.s (vX32_ruled_65 hm K2 (LE0 rfl)) HP, fun z => by omega⟩
      rcases hv with rfl | rfl
      · obtain ⟨A', B', on', H1, H2, H3⟩ := ih (k + 1) 0 A1 B1 (by omega) (by omega) (.inl rfl) (V.no ho) fA gB
        refine ⟨A', B', on', fun P HP => sH P ?_, (eS.of (fun P HP => sM P ?_)).tr H2, H3⟩
        · refine rh1.of (rX24_findRules_41 hh _ _ _ _ _ _ _ hb ?_)
          exact ⟨fun z => absurd rfl z.1, fun _ => ⟨fun z => absurd rfl z, fun _ => ⟨⟨by omega, by omega⟩, H1 P HP⟩⟩⟩
        · refine rh1.of (rX32_ruled_68 hm _ _ _ _ _ _ ?_)
          exact ⟨fun z => absurd rfl z.1, fun _ => ⟨fun z => absurd rfl z, fun _ => ⟨⟨by omega, by omega⟩, HP⟩⟩⟩
      rcases ho with rfl | rfl
      · -- a rule begins
        obtain ⟨c, hc⟩ : ∃ c, c = B1 0 218 := ⟨_, rfl⟩
        rw [← hc] at v1 v2 v3
        have V2 := V.new (A' := rh_set (rh_set (rh_set A1 206 0 (c + 1)) 207 (128 * 0 + c) k) 208 (128 * 0 + c) k) (B' := rh_set (rh_set (rh_set B1 169 c k) 0 218 (c + 1)) 170 c k) (by decide) (by decide) (by decide) (by decide) k0 (by rw [← hc]) (by rw [← hc])
        obtain ⟨A', B', on', H1, H2, H3⟩ := ih (k + 1) 1 _ _ (by omega) (by omega) (.inr rfl) V2 (((fA.st (by unfold Frl; omega)).st (by unfold Frl; omega)).st (by unfold Frl; omega)) (((gB.st (.inl rfl)).st (.inr (.inr ⟨rfl, rfl⟩))).st (.inr (.inl rfl)))
        refine ⟨A', B', on', fun P HP => sH P ?_, (eS.of (fun P HP => sM P ?_)).tr H2, H3⟩
        · refine rh1.of (rX24_findRules_41 hh _ _ _ _ _ _ _ hb ?_)
          rw [v1]
          refine ⟨fun _ => ⟨⟨by omega, by omega⟩, ?_⟩, fun z => absurd ⟨by decide, rfl⟩ z⟩
          refine rh1.s vX24_findRules_69 ?_
          refine rh1.s (eS.fx 4 (x := 128 * 0) rfl (by decide) rfl) ?_
          refine rh1.of (rX24_findRules_70 hh _ _ _ _ _ _ _ _ _ _ _ _ _ _ hb h207 h206 ?_)
          refine ⟨by decide, ⟨by omega, by omega⟩, ⟨by omega, by omega⟩, fun _ => ?_, fun z => absurd (show (1 : Int) ≠ 0 by decide) z⟩
          intro X hX
          have X1 : X 206 0 = c + 1 := by rw [hX, rh_set_a (by decide), rh_set_s]
          rw [X1, hX, show 128 * 0 + (c + 1) - 1 = 128 * 0 + c by omega]
          exact ⟨by decide, ⟨by omega, by omega⟩, ⟨by omega, by omega⟩, H1 P HP⟩
        · refine rh1.of (rX32_ruled_68 hm _ _ _ _ _ _ ?_)
          rw [← hc]
          refine ⟨fun _ => ⟨⟨by omega, by omega⟩, ?_⟩, fun z => absurd ⟨by decide, rfl⟩ z⟩
          intro X hX
          have X1 : X 0 218 = c := by rw [hX, rh_set_a (by decide)]; exact hc.symm
          rw [X1]
          refine ⟨⟨by omega, by omega⟩, fun _ => ?_, fun z => absurd (show (1 : Int) ≠ 0 by decide) z⟩
          intro X' hX'
          have X2 : X' 0 218 = c + 1 := by rw [hX', rh_set_s]
          rw [X2, show c + 1 - 1 = c by omega, hX', hX]
          exact ⟨⟨by omega, by omega⟩, ⟨by omega, by omega⟩, HP⟩
      · -- a rule goes on
        obtain ⟨c, hc⟩ : ∃ c, c = B1 0 218 := ⟨_, rfl⟩
        rw [← hc] at v1 v2 v3
        have V2 := V.on (A' := rh_set A1 208 (128 * 0 + c - 1) k) (B' := rh_set B1 170 (c - 1) k) (by decide) (by decide) (by decide) k0 (by rw [← hc]) (by rw [← hc])
        obtain ⟨A', B', on', H1, H2, H3⟩ := ih (k + 1) 1 _ _ (by omega) (by omega) (.inr rfl) V2 (fA.st (by unfold Frl; omega)) (gB.st (.inr (.inl rfl)))
        refine ⟨A', B', on', fun P HP => sH P ?_, (eS.of (fun P HP => sM P ?_)).tr H2, H3⟩
        · refine rh1.of (rX24_findRules_41 hh _ _ _ _ _ _ _ hb ?_)
          refine ⟨fun z => absurd z.2 (by decide), fun _ => ⟨fun _ => ?_, fun z => absurd (show (1 : Int) ≠ 0 by decide) z⟩⟩
          intro X hX
          rw [hX, v1]
          exact ⟨by decide, ⟨by omega, by omega⟩, ⟨by omega, by omega⟩, H1 P HP⟩
        · refine rh1.of (rX32_ruled_68 hm _ _ _ _ _ _ ?_)
          refine ⟨fun z => absurd z.2 (by decide), fun _ => ⟨fun _ => ?_, fun z => absurd (show (1 : Int) ≠ 0 by decide) z⟩⟩
          intro X hX
          rw [hX, ← hc]
          exact ⟨⟨by omega, by omega⟩, ⟨by omega, by omega⟩, HP⟩
  obtain ⟨A', B', on', H1, H2, H3, H4, H5⟩ := key N.toNat 0 0 (rh_set A 206 0 0) B (by omega) (by decide) (.inl rfl) ⟨by rw [rh_set_s, h0], by rw [h0]; decide, fun z => by omega, fun r r0 r1 => by rw [h0] at r1; omega⟩ (frx.rf.st (by unfold Frl; omega)) frx.rf
  rw [← hN]
  refine ⟨A', B', on', eC.of1 (rC1.of (by decide) (LE0 rfl) ?_), H2, H3, H4, H5⟩
  refine rh1.of (rX24_findRules_0 hh _ _ _ _ hb ?_)
  exact ⟨by decide, H1 _ ⟨rfl, rfl⟩⟩
theorem t_rules1 (hh : rh_hs wh) (hm : rh_ms wm) {A B : rhM} (R : Rpg A B) {p n : Int} (hp : 0 ≤ p ∧ p < 8) (hn : 8 ≤ n ∧ n ≤ 128) (h0 : B 0 219 = 0) : ∃ A' B' on', eC wh YX24_findRules 4 [(2, 205), (2, 251 + 39 * p), (0, 1), (0, n)] A 0 A' ∧ eS wm YX32_ruled 4 132 [(0, 2, 0), (1, 0, p), (2, 0, n), (3, 0, 0), (4, 0, 0)] [] B 132 [(0, 2, 0), (1, 0, p), (2, 0, n), (3, 0, on'), (4, 0, B 4 p)] [] B' ∧ Rlw A' B' 1 219 171 172 ∧ frx (Frl 1) A A' ∧ frx (fun c j => c = 171 ∨ c = 172 ∨ (c = 0 ∧ j = 219)) B B' := by
  have hb := hs_pg hh hp.1 hp.2
  have h206 := hs_206 hh
  have h207 := hs_207 hh
  obtain ⟨q1, q2, q3, q4, q5, q6, q7, q8, -⟩ := id (R p hp.1 hp.2).1
  obtain ⟨N, hN⟩ : ∃ N, N = B 4 p := ⟨_, rfl⟩
  have N1 : 0 ≤ N ∧ N ≤ 128 := by omega
  have key : ∀ (u : Nat) (k on : Int) (A1 B1 : rhM), k + u = N → 0 ≤ k → (on = 0 ∨ on = 1) → Rlv A1 B1 1 219 171 172 k on → frx (Frl 1) A A1 → frx (fun c j => c = 171 ∨ c = 172 ∨ (c = 0 ∧ j = 219)) B B1 → ∃ A' B' on', (∀ P : Int → rhM → Prop, P 0 A' → rh1 wh YX24_findRules 4 13 [(0, 2, 205), (1, 2, 251 + 39 * p), (2, 0, 1), (3, 0, n), (4, 0, on), (5, 0, k)] [] A1 P) ∧ eS wm YX32_ruled 4 132 [(0, 2, 0), (1, 0, p), (2, 0, n), (3, 0, on), (4, 0, k)] [] B1 132 [(0, 2, 0), (1, 0, p), (2, 0, n), (3, 0, on'), (4, 0, N)] [] B' ∧ Rlw A' B' 1 219 171 172 ∧ frx (Frl 1) A A' ∧ frx (fun c j => c = 171 ∨ c = 172 ∨ (c = 0 ∧ j = 219)) B B' := by
    intro u
    induction u with
    | zero =>
      intro k on A1 B1 hk k0 ho V fA gB
      have e : k = N := by omega
      rw [e] at V ⊢
      refine ⟨A1, B1, on, fun P HP => ?_, eS.rf, V.fin ⟨by omega, by omega⟩ ho, fA, gB⟩
      refine rh1.of (rX24_findRules_13 hh _ _ _ _ _ _ hb ?_)
      rw [rh_if_f (show ¬ (1 : Int) = 0 by decide), fA _ _ (by unfold Frl; omega), q1, ← hN]
      exact ⟨fun z => by omega, fun _ => HP⟩
    | succ u ih =>
      intro k on A1 B1 hk k0 ho V fA gB
      have R1 : Rpg A1 B1 := R.fx fA gB (fun p a j p0 p1 h => by unfold Frl at h; omega) (fun a j h => by omega)
      obtain ⟨v, hv, K1, K2⟩ := t_isRule hh hm R1 (p := p) (way := 1) (i := k) (n := n) (t := 0) hp hn (.inr ⟨rfl, rfl⟩)
      have lh : A1 (251 + 39 * p) 1 = N := by rw [fA _ _ (by unfold Frl; omega), q1, ← hN]
      have lm : B1 4 p = N := by rw [gB 4 p (by omega)]; exact hN.symm
      obtain ⟨v1, v2, v3, v4⟩ := id V
      have sH : ∀ P : Int → rhM → Prop, rh1 wh YX24_findRules 4 41 [(0, 2, 205), (1, 2, 251 + 39 * p), (2, 0, 1), (3, 0, n), (4, 0, on), (5, 0, k)] [(0, v)] A1 P → rh1 wh YX24_findRules 4 13 [(0, 2, 205), (1, 2, 251 + 39 * p), (2, 0, 1), (3, 0, n), (4, 0, on), (5, 0, k)] [] A1 P := fun P HP => by
        refine rh1.of (rX24_findRules_13 hh _ _ _ _ _ _ hb ?_)
        rw [rh_if_f (show ¬ (1 : Int) = 0 by decide), lh]
        exact ⟨fun _ => rh1.s (vX24_findRules_38 K1 (LE0 rfl)) HP, fun z => by omega⟩
      have sM : ∀ P : Int → rhM → Prop, rh1 wm YX32_ruled 4 152 [(0, 2, 0), (1, 0, p), (2, 0, n), (3, 0, on), (4, 0, k)] [(0, v)] B1 P → rh1 wm YX32_ruled 4 132 [(0, 2, 0), (1, 0, p), (2, 0, n), (3, 0, on), (4, 0, k)] [] B1 P := fun P HP => by
        refine rh1.of (rX32_ruled_132 hm _ _ _ _ _ ?_)
        rw [lm]
        exact ⟨⟨by omega, by omega⟩, fun _ => rh1.s (vX32_ruled_149 hm K2 (LE0 rfl)) HP, fun z => by omega⟩
      rcases hv with rfl | rfl
      · obtain ⟨A', B', on', H1, H2, H3⟩ := ih (k + 1) 0 A1 B1 (by omega) (by omega) (.inl rfl) (V.no ho) fA gB
        refine ⟨A', B', on', fun P HP => sH P ?_, (eS.of (fun P HP => sM P ?_)).tr H2, H3⟩
        · refine rh1.of (rX24_findRules_41 hh _ _ _ _ _ _ _ hb ?_)
          exact ⟨fun z => absurd rfl z.1, fun _ => ⟨fun z => absurd rfl z, fun _ => ⟨⟨by omega, by omega⟩, H1 P HP⟩⟩⟩
        · refine rh1.of (rX32_ruled_152 hm _ _ _ _ _ _ ?_)
          exact ⟨fun z => absurd rfl z.1, fun _ => ⟨fun z => absurd rfl z, fun _ => ⟨⟨by omega, by omega⟩, HP⟩⟩⟩
      rcases ho with rfl | rfl
      · -- a rule begins
        obtain ⟨c, hc⟩ : ∃ c, c = B1 0 219 := ⟨_, rfl⟩
        rw [← hc] at v1 v2 v3
        have V2 := V.new (A' := rh_set (rh_set (rh_set A1 206 1 (c + 1)) 207 (128 * 1 + c) k) 208 (128 * 1 + c) k) (B' := rh_set (rh_set (rh_set B1 171 c k) 0 219 (c + 1)) 172 c k) (by decide) (by decide) (by decide) (by decide) k0 (by rw [← hc]) (by rw [← hc])
        obtain ⟨A', B', on', H1, H2, H3⟩ := ih (k + 1) 1 _ _ (by omega) (by omega) (.inr rfl) V2 (((fA.st (by unfold Frl; omega)).st (by unfold Frl; omega)).st (by unfold Frl; omega)) (((gB.st (.inl rfl)).st (.inr (.inr ⟨rfl, rfl⟩))).st (.inr (.inl rfl)))
        refine ⟨A', B', on', fun P HP => sH P ?_, (eS.of (fun P HP => sM P ?_)).tr H2, H3⟩
        · refine rh1.of (rX24_findRules_41 hh _ _ _ _ _ _ _ hb ?_)
          rw [v1]
          refine ⟨fun _ => ⟨⟨by omega, by omega⟩, ?_⟩, fun z => absurd ⟨by decide, rfl⟩ z⟩
          refine rh1.s vX24_findRules_69 ?_
          refine rh1.s (eS.fx 4 (x := 128 * 1) rfl (by decide) rfl) ?_
          refine rh1.of (rX24_findRules_70 hh _ _ _ _ _ _ _ _ _ _ _ _ _ _ hb h207 h206 ?_)
          refine ⟨by decide, ⟨by omega, by omega⟩, ⟨by omega, by omega⟩, fun _ => ?_, fun z => absurd (show (1 : Int) ≠ 0 by decide) z⟩
          intro X hX
          have X1 : X 206 1 = c + 1 := by rw [hX, rh_set_a (by decide), rh_set_s]
          rw [X1, hX, show 128 * 1 + (c + 1) - 1 = 128 * 1 + c by omega]
          exact ⟨by decide, ⟨by omega, by omega⟩, ⟨by omega, by omega⟩, H1 P HP⟩
        · refine rh1.of (rX32_ruled_152 hm _ _ _ _ _ _ ?_)
          rw [← hc]
          refine ⟨fun _ => ⟨⟨by omega, by omega⟩, ?_⟩, fun z => absurd ⟨by decide, rfl⟩ z⟩
          intro X hX
          have X1 : X 0 219 = c := by rw [hX, rh_set_a (by decide)]; exact hc.symm
          rw [X1]
          refine ⟨⟨by omega, by omega⟩, fun _ => ?_, fun z => absurd (show (1 : Int) ≠ 0 by decide) z⟩
          intro X' hX'
          have X2 : X' 0 219 = c + 1 := by rw [hX', rh_set_s]
          rw [X2, show c + 1 - 1 = c by omega, hX', hX]
          exact ⟨⟨by omega, by omega⟩, ⟨by omega, by omega⟩, HP⟩
      · -- a rule goes on
        obtain ⟨c, hc⟩ : ∃ c, c = B1 0 219 := ⟨_, rfl⟩
        rw [← hc] at v1 v2 v3
        have V2 := V.on (A' := rh_set A1 208 (128 * 1 + c - 1) k) (B' := rh_set B1 172 (c - 1) k) (by decide) (by decide) (by decide) k0 (by rw [← hc]) (by rw [← hc])
        obtain ⟨A', B', on', H1, H2, H3⟩ := ih (k + 1) 1 _ _ (by omega) (by omega) (.inr rfl) V2 (fA.st (by unfold Frl; omega)) (gB.st (.inr (.inl rfl)))
        refine ⟨A', B', on', fun P HP => sH P ?_, (eS.of (fun P HP => sM P ?_)).tr H2, H3⟩
        · refine rh1.of (rX24_findRules_41 hh _ _ _ _ _ _ _ hb ?_)
          refine ⟨fun z => absurd z.2 (by decide), fun _ => ⟨fun _ => ?_, fun z => absurd (show (1 : Int) ≠ 0 by decide) z⟩⟩
          intro X hX
          rw [hX, v1]
          exact ⟨by decide, ⟨by omega, by omega⟩, ⟨by omega, by omega⟩, H1 P HP⟩
        · refine rh1.of (rX32_ruled_152 hm _ _ _ _ _ _ ?_)
          refine ⟨fun z => absurd z.2 (by decide), fun _ => ⟨fun _ => ?_, fun z => absurd (show (1 : Int) ≠ 0 by decide) z⟩⟩
          intro X hX
          rw [hX, ← hc]
          exact ⟨⟨by omega, by omega⟩, ⟨by omega, by omega⟩, HP⟩
  obtain ⟨A', B', on', H1, H2, H3, H4, H5⟩ := key N.toNat 0 0 (rh_set A 206 1 0) B (by omega) (by decide) (.inl rfl) ⟨by rw [rh_set_s, h0], by rw [h0]; decide, fun z => by omega, fun r r0 r1 => by rw [h0] at r1; omega⟩ (frx.rf.st (by unfold Frl; omega)) frx.rf
  rw [← hN]
  refine ⟨A', B', on', eC.of1 (rC1.of (by decide) (LE0 rfl) ?_), H2, H3, H4, H5⟩
  refine rh1.of (rX24_findRules_0 hh _ _ _ _ hb ?_)
  exact ⟨by decide, H1 _ ⟨rfl, rfl⟩⟩
end Rules
