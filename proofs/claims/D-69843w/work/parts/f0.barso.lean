/-! ===== LAYER 2: bars in a row: the operation ===== -/
section BarsOp
variable {wh wm : rhW}
/-- the first code -/
theorem t_read (hh : rh_hs wh) (hm : rh_ms wm) {A B : rhM} {o : Int} (R : Rns A B o) : ∃ v A' B', eC wh YX25_read 2 [(2, 210)] A v A' ∧ eC wm YX32_findCode 3 [(2, 0)] B v B' ∧ (v = -1 ∨ ((2 ≤ v ∧ v ≤ 14) ∧ Dgs A' B' v)) ∧ frx Fbh A A' ∧ frx Fbm B B' := by
  obtain ⟨r1, r2, r3, r4, r5, r6⟩ := id R
  have key : ∀ (u : Nat) (f : Int) (A1 B1 : rhM), f + 2 * u = 200 → 0 ≤ f → frx Fbh A A1 → frx Fbm B B1 → ∃ v A' B', (∀ P : Int → rhM → Prop, P v A' → rh1 wh YX25_read 2 2 [(0, 2, 210), (1, 0, f)] [] A1 P) ∧ (∀ P : Int → rhM → Prop, P v B' → rh1 wm YX32_findCode 3 13 [(0, 2, 0), (1, 0, f + o)] [] B1 P) ∧ (v = -1 ∨ ((2 ≤ v ∧ v ≤ 14) ∧ Dgs A' B' v)) ∧ frx Fbh A A' ∧ frx Fbm B B' := by
    intro u
    induction u with
    | zero =>
      intro f A1 B1 hu f0 fA gB
      have a1 : A1 210 1 = A 210 1 := fA 210 1 (by unfold Fbh; omega)
      have b1 : B1 0 215 = B 0 215 := gB 0 215 (by unfold Fbm; omega)
      refine ⟨-1, A1, B1, fun P HP => ?_, fun P HP => ?_, .inl rfl, fA, gB⟩
      · refine rh1.of (rX25_read_2 hh _ _ ?_)
        rw [a1]
        exact ⟨fun z => by omega, fun _ => HP⟩
      · refine rh1.of (rX32_findCode_13 hm _ _ ?_)
        rw [b1]
        exact ⟨fun z => by omega, fun _ => HP⟩
    | succ u ih =>
      intro f A1 B1 hu f0 fA gB
      have a1 : A1 210 1 = A 210 1 := fA 210 1 (by unfold Fbh; omega)
      have b1 : B1 0 215 = B 0 215 := gB 0 215 (by unfold Fbm; omega)
      by_cases c : f < A 210 1
      case neg =>
        refine ⟨-1, A1, B1, fun P HP => ?_, fun P HP => ?_, .inl rfl, fA, gB⟩
        · refine rh1.of (rX25_read_2 hh _ _ ?_)
          rw [a1]
          exact ⟨fun z => absurd z c, fun _ => HP⟩
        · refine rh1.of (rX32_findCode_13 hm _ _ ?_)
          rw [b1]
          exact ⟨fun z => by omega, fun _ => HP⟩
      have inner : ∀ (m : Nat) (n : Int) (A1 B1 : rhM), n + 2 * m = 16 → 2 ≤ n → frx Fbh A A1 → frx Fbm B B1 → ∃ v A' B', (∀ P : Int → rhM → Prop, P v A' → rh1 wh YX25_read 2 12 [(0, 2, 210), (1, 0, f), (2, 0, n)] [] A1 P) ∧ (∀ P : Int → rhM → Prop, P v B' → rh1 wm YX32_findCode 3 23 [(0, 2, 0), (1, 0, f + o), (2, 0, n)] [] B1 P) ∧ (v = -1 ∨ ((2 ≤ v ∧ v ≤ 14) ∧ Dgs A' B' v)) ∧ frx Fbh A A' ∧ frx Fbm B B' := by
        intro m
        induction m with
        | zero =>
          intro n A1 B1 hn n0 fA gB
          obtain ⟨v, A', B', H1, H2, H3⟩ := ih (f + 2) A1 B1 (by omega) (by omega) fA gB
          refine ⟨v, A', B', fun P HP => ?_, fun P HP => ?_, H3⟩
          · refine rh1.of (rX25_read_12 hh _ _ _ ?_)
            exact ⟨fun z => by omega, fun _ => ⟨⟨by omega, by omega⟩, H1 P HP⟩⟩
          · refine rh1.of (rX32_findCode_23 hm _ _ _ ?_)
            rw [show f + o + 2 = f + 2 + o by omega]
            exact ⟨fun z => by omega, fun _ => ⟨⟨by omega, by omega⟩, H2 P HP⟩⟩
        | succ m ih2 =>
          intro n A1 B1 hn n0 fA gB
          obtain ⟨v, A2, B2, K1, K2, hv, f2, g2⟩ := t_isCode hh hm (R.fx fA gB) (f := f) (n := n) ⟨by omega, by omega, by omega⟩ ⟨by omega, by omega, by omega⟩
          rcases hv with rfl | ⟨rfl, D⟩
          · obtain ⟨v, A', B', H1, H2, H3⟩ := ih2 (n + 2) A2 B2 (by omega) (by omega) (fA.tr f2) (gB.tr g2)
            refine ⟨v, A', B', fun P HP => ?_, fun P HP => ?_, H3⟩
            · refine rh1.of (rX25_read_12 hh _ _ _ ?_)
              refine ⟨fun _ => rh1.s (vX25_read_21 hh K1 (LE0 rfl)) ?_, fun z => by omega⟩
              refine rh1.of (rX25_read_24 hh _ _ _ _ ?_)
              exact ⟨fun z => absurd rfl z, fun _ => ⟨⟨by omega, by omega⟩, H1 P HP⟩⟩
            · refine rh1.of (rX32_findCode_23 hm _ _ _ ?_)
              refine ⟨fun _ => rh1.s (vX32_findCode_32 hm K2 (LE0 rfl)) ?_, fun z => by omega⟩
              refine rh1.of (rX32_findCode_35 hm _ _ _ _ ?_)
              exact ⟨fun z => absurd rfl z, fun _ => ⟨⟨by omega, by omega⟩, H2 P HP⟩⟩
          · refine ⟨n, A2, B2, fun P HP => ?_, fun P HP => ?_, .inr ⟨⟨by omega, by omega⟩, D⟩, fA.tr f2, gB.tr g2⟩
            · refine rh1.of (rX25_read_12 hh _ _ _ ?_)
              refine ⟨fun _ => rh1.s (vX25_read_21 hh K1 (LE0 rfl)) ?_, fun z => by omega⟩
              refine rh1.of (rX25_read_24 hh _ _ _ _ ?_)
              exact ⟨fun _ => HP, fun z => absurd (show (1 : Int) ≠ 0 by decide) z⟩
            · refine rh1.of (rX32_findCode_23 hm _ _ _ ?_)
              refine ⟨fun _ => rh1.s (vX32_findCode_32 hm K2 (LE0 rfl)) ?_, fun z => by omega⟩
              refine rh1.of (rX32_findCode_35 hm _ _ _ _ ?_)
              exact ⟨fun _ => HP, fun z => absurd (show (1 : Int) ≠ 0 by decide) z⟩
      obtain ⟨v, A', B', H1, H2, H3⟩ := inner 7 2 A1 B1 (by decide) (by decide) fA gB
      refine ⟨v, A', B', fun P HP => ?_, fun P HP => ?_, H3⟩
      · refine rh1.of (rX25_read_2 hh _ _ ?_)
        rw [a1]
        exact ⟨fun _ => H1 P HP, fun z => absurd c z⟩
      · refine rh1.of (rX32_findCode_13 hm _ _ ?_)
        rw [b1]
        exact ⟨fun _ => H2 P HP, fun z => by omega⟩
  obtain ⟨v, A', B', H1, H2, H3⟩ := key 100 0 A B (by decide) (by decide) frx.rf frx.rf
  refine ⟨v, A', B', eC.of1 (rC1.of (by decide) (LE0 rfl) ?_), eC.of1 (rC1.of (by decide) (LE0 rfl) ?_), H3⟩
  · refine rh1.of (rX25_read_0 hh _ ?_)
    exact H1 _ ⟨rfl, rfl⟩
  · refine rh1.of (rX32_findCode_0 hm _ ?_)
    rw [r6]
    have e : rh_if (1 - o = 0) (1 : Int) 0 = 0 + o := by
      rcases r2 with rfl | rfl
      · rw [rh_if_f (by decide)]; rfl
      · rw [rh_if_t (by decide)]; rfl
    rw [e]
    (intro zq hzq; replace hzq := hzq.symm; subst hzq)
    exact H2 _ ⟨rfl, rfl⟩
def Frh (c j : Int) : Prop := c = 211 ∨ (c = 210 ∧ j = 1)
def Frm (c j : Int) : Prop := c = 168 ∨ (c = 0 ∧ (j = 215 ∨ j = 216))
/-- runs while a row is walked -/
def Rnv (A B : rhM) (k b : Int) : Prop := (0 ≤ A 210 1 ∧ A 210 1 ≤ k) ∧ (b = 0 ∨ b = 1) ∧ (k = 0 → A 210 1 = 0 ∧ B 0 215 = 0 ∧ b = 0) ∧ (0 < k → (B 0 216 = 0 ∨ B 0 216 = 1) ∧ B 0 215 = A 210 1 + (1 - B 0 216) ∧ (A 210 1 = 0 → B 0 216 = 0) ∧ A 210 1 % 2 = b ∧ 1 ≤ B 0 215 ∧ B 0 215 ≤ k) ∧ (∀ i, 0 ≤ i → i < A 210 1 → A 211 i = B 168 (i + (1 - B 0 216)) ∧ 1 ≤ B 168 (i + (1 - B 0 216))) ∧ ∀ i, 0 ≤ i → i < B 0 215 → 0 ≤ B 168 i ∧ B 168 i ≤ k
theorem t_runs (hh : rh_hs wh) (hm : rh_ms wm) {A B : rhM} (R : Rpg A B) {p y lf t : Int} (hp : 0 ≤ p ∧ p < 8) (hw : 0 < B 4 p) (hy : 0 ≤ y ∧ y < B 5 p) (ht : (lf = 1 ∧ t = 0) ∨ (lf = 0 ∧ t = 1)) : ∃ A' B' o, eC wh YX25_findRuns 2 [(2, 210), (2, 251 + 39 * p), (0, y), (0, lf)] A 0 A' ∧ eC wm YX32_findRuns 2 [(2, 0), (0, p), (0, y), (0, t)] B 0 B' ∧ Rns A' B' o ∧ frx Frh A A' ∧ frx Frm B B' := by
  have hb := hs_pg hh hp.1 hp.2
  obtain ⟨w, hwe⟩ : ∃ w, w = B 4 p := ⟨_, rfl⟩
  obtain ⟨q1, q2, q3, q4, q5, q6, q7, q8, -⟩ := id (R p hp.1 hp.2).1
  have key : ∀ (u : Nat) (k b : Int) (A1 B1 : rhM), k + u = w → 0 ≤ k → Rnv A1 B1 k b → frx Frh A A1 → frx Frm B B1 → ∃ A' B' b', eS wh YX25_findRuns 2 11 [(0, 2, 210), (1, 2, 251 + 39 * p), (2, 0, y), (3, 0, lf), (4, 0, b), (5, 0, k)] [] A1 11 [(0, 2, 210), (1, 2, 251 + 39 * p), (2, 0, y), (3, 0, lf), (4, 0, b'), (5, 0, w)] [] A' ∧ eS wm YX32_findRuns 2 19 [(0, 2, 0), (1, 0, p), (2, 0, y), (3, 0, t), (4, 0, w), (5, 0, b), (6, 0, k)] [] B1 19 [(0, 2, 0), (1, 0, p), (2, 0, y), (3, 0, t), (4, 0, w), (5, 0, b'), (6, 0, w)] [] B' ∧ Rnv A' B' w b' ∧ frx Frh A A' ∧ frx Frm B B' := by
    intro u
    induction u with
    | zero =>
      intro k b A1 B1 hk k0 V fA gB
      have e : k = w := by omega
      subst e
      exact ⟨A1, B1, b, eS.rf, eS.rf, V, fA, gB⟩
    | succ u ih =>
      intro k b A1 B1 hk k0 V fA gB
      have R1 : Rpg A1 B1 := R.fx fA gB (fun p a j p0 p1 h => by unfold Frh at h; omega) (fun a j h => by unfold Frm at h; omega)
      have Q := (R1 p hp.1 hp.2).1
      have e4 : B1 4 p = w := by rw [hwe]; exact gB 4 p (by unfold Frm; omega)
      have eh1 : A1 (251 + 39 * p) 1 = w := by rw [Q.1, e4]
      obtain ⟨cx, hcx⟩ : ∃ cx, cx = rh_if (lf ≠ 0) k (w - 1 - k) := ⟨_, rfl⟩
      have cxm : rh_if (t ≠ 0) (w - 1 - k) k = cx := by
        rw [hcx]
        rcases ht with ⟨rfl, rfl⟩ | ⟨rfl, rfl⟩
        · rw [rh_if_f (by decide), rh_if_t (by decide)]
        · rw [rh_if_t (by decide), rh_if_f (by decide)]
      have cxb : 0 ≤ cx ∧ cx < w := by
        rw [hcx]
        rcases ht with ⟨rfl, rfl⟩ | ⟨rfl, rfl⟩
        · rw [rh_if_t (by decide)]; omega
        · rw [rh_if_f (by decide)]; omega
      have KB := c_blkM hm (x := cx) (y := y) hp B1 (by rw [gB 4 p (by unfold Frm; omega), gB 5 p (by unfold Frm; omega)]; exact ⟨by omega, q7, q8⟩)
      have bq := blk_h (u := cx) (v := y) Q
      rw [eh1] at bq
      obtain ⟨x, hx⟩ : ∃ x, x = rh_if (Bkp B1 p cx y) (1 : Int) 0 := ⟨_, rfl⟩
      rw [← hx] at KB
      have x01 : x = 0 ∨ x = 1 := by rw [hx]; exact if01 _
      obtain ⟨v1, v2, v3, v4, v5, v6⟩ := V
      have hxh : rh_if (((0 ≤ cx) ∧ ((cx < w) ∧ ((0 ≤ y) ∧ (y < A1 (251 + 39 * p) 2)))) ∧ (rh_and (A1 (251 + 39 * p + 1) (w * y + cx)) 255 < 128)) (1 : Int) 0 = x := by
        rw [hx]
        by_cases z : Bkp B1 p cx y
        · rw [rh_if_t z, rh_if_t (bq.mpr z)]
        · rw [rh_if_f z, rh_if_f (fun s => z (bq.mp s))]
      have rng : ((0 ≤ cx) ∧ ((cx < w) ∧ ((0 ≤ y) ∧ (y < A1 (251 + 39 * p) 2)))) → 0 ≤ w * y + cx ∧ w * y + cx < 6144 := fun z => by
        have := blk_r (u := cx) (v := y) Q (by rw [eh1]; exact z)
        rwa [eh1] at this
      have stepH : ∀ P : Int → rhM → Prop, ((x ≠ b → rh1 wh YX25_findRuns 2 11 [(0, 2, 210), (1, 2, 251 + 39 * p), (2, 0, y), (3, 0, lf), (4, 0, x), (5, 0, k + 1)] [] (rh_set (rh_set (rh_set A1 210 1 (A1 210 1 + 1)) 211 (A1 210 1) 0) 211 (A1 210 1) 1) P) ∧ (¬ x ≠ b → 0 < A1 210 1 → rh1 wh YX25_findRuns 2 11 [(0, 2, 210), (1, 2, 251 + 39 * p), (2, 0, y), (3, 0, lf), (4, 0, x), (5, 0, k + 1)] [] (rh_set A1 211 (A1 210 1 - 1) (A1 211 (A1 210 1 - 1) + 1)) P) ∧ (¬ x ≠ b → ¬ 0 < A1 210 1 → rh1 wh YX25_findRuns 2 11 [(0, 2, 210), (1, 2, 251 + 39 * p), (2, 0, y), (3, 0, lf), (4, 0, x), (5, 0, k + 1)] [] A1 P)) → rh1 wh YX25_findRuns 2 11 [(0, 2, 210), (1, 2, 251 + 39 * p), (2, 0, y), (3, 0, lf), (4, 0, b), (5, 0, k)] [] A1 P := fun P HP => by
        refine rh1.of (rX25_findRuns_11 hh _ _ _ _ _ _ hb ?_)
        rw [eh1, ← hcx]
        refine ⟨fun _ => ⟨⟨by omega, by omega⟩, fun z => by have := rng z; exact ⟨by omega, by omega⟩, fun z => rng z, ?_⟩, fun z => by omega⟩
        rw [hxh]
        (intro zq hzq; replace hzq := hzq.symm; subst hzq)
        refine ⟨fun c => ⟨⟨by omega, by omega⟩, ⟨by omega, by omega⟩, ?_⟩, fun c => ?_⟩
        · intro X hX
          have X1 : X 210 1 = A1 210 1 + 1 := by rw [hX, rh_set_a (by decide), rh_set_s]
          have X2 : X 211 (A1 210 1) = 0 := by rw [hX, rh_set_s]
          rw [X1, show A1 210 1 + 1 - 1 = A1 210 1 by omega, X2]
          refine ⟨fun _ => ⟨⟨by omega, by omega⟩, ?_⟩, fun z => by omega⟩
          (intro zq hzq; replace hzq := hzq.symm; subst hzq)
          rw [hX]
          exact ⟨⟨by omega, by omega⟩, by decide, ⟨by omega, by omega⟩, HP.1 c⟩
        · intro X hX
          rw [hX]
          refine ⟨fun z => ⟨⟨by omega, by omega⟩, ?_⟩, fun z => ⟨⟨by omega, by omega⟩, HP.2.2 c z⟩⟩
          (intro zq hzq; replace hzq := hzq.symm; subst hzq)
          have a := v5 (A1 210 1 - 1) (by omega) (by omega)
          have b := v6 (A1 210 1 - 1 + (1 - B1 0 216)) (by have := v4; omega) (by have := v4; omega)
          exact ⟨⟨by omega, by omega⟩, ⟨by omega, by omega⟩, ⟨by omega, by omega⟩, HP.2.1 c z⟩
      have stepM : ∀ P : Int → rhM → Prop, ((k = 0 ∨ x ≠ b → rh1 wm YX32_findRuns 2 19 [(0, 2, 0), (1, 0, p), (2, 0, y), (3, 0, t), (4, 0, w), (5, 0, x), (6, 0, k + 1)] [] (rh_set (rh_set (rh_set (rh_set B1 0 216 (rh_if (k = 0) x (B1 0 216))) 168 (B1 0 215) 0) 0 215 (B1 0 215 + 1)) 168 (B1 0 215) 1) P) ∧ (¬ (k = 0 ∨ x ≠ b) → rh1 wm YX32_findRuns 2 19 [(0, 2, 0), (1, 0, p), (2, 0, y), (3, 0, t), (4, 0, w), (5, 0, x), (6, 0, k + 1)] [] (rh_set B1 168 (B1 0 215 - 1) (B1 168 (B1 0 215 - 1) + 1)) P)) → rh1 wm YX32_findRuns 2 19 [(0, 2, 0), (1, 0, p), (2, 0, y), (3, 0, t), (4, 0, w), (5, 0, b), (6, 0, k)] [] B1 P := fun P HP => by
        refine rh1.of (rX32_findRuns_19 hm _ _ _ _ _ _ _ ?_)
        refine ⟨fun _ => ?_, fun z => by omega⟩
        rw [cxm]
        refine rh1.s (eS.fx 1 (x := cx) rfl ⟨by omega, by omega⟩ rfl) ?_
        refine rh1.s (vX32_findRuns_45 hm KB (LE0 rfl)) ?_
        refine rh1.of (rX32_findRuns_48 hm _ _ _ _ _ _ _ _ ?_)
        refine ⟨fun c => ?_, fun c => ?_⟩
        · intro z hz
          have zb : 0 ≤ z ∧ z ≤ 1 := by
            rw [hz]
            by_cases e : k = 0
            · rw [rh_if_t e]; omega
            · rw [rh_if_f e]; have := v4; omega
          have nb : 0 ≤ B1 0 215 ∧ B1 0 215 ≤ k := by
            by_cases e : k = 0
            · have := v3 e; omega
            · have := v4 (by omega); omega
          refine ⟨zb, ?_⟩
          rw [rh_set_j (by decide)]
          refine ⟨⟨by omega, by omega⟩, ?_⟩
          intro X hX
          have X1 : X 0 215 = B1 0 215 := by rw [hX, rh_set_a (by decide), rh_set_j (by decide)]
          rw [X1]
          refine ⟨⟨by omega, by omega⟩, ?_⟩
          intro X' hX'
          have X2 : X' 0 215 = B1 0 215 + 1 := by rw [hX', rh_set_s]
          have X3 : X' 168 (B1 0 215) = 0 := by rw [hX', rh_set_a (by decide), hX, rh_set_s]
          rw [X2, show B1 0 215 + 1 - 1 = B1 0 215 by omega, X3]
          refine ⟨⟨by omega, by omega⟩, ?_⟩
          (intro zq hzq; replace hzq := hzq.symm; subst hzq)
          have H := HP.1 c
          rw [← hz, ← hX, ← hX'] at H
          exact ⟨⟨by omega, by omega⟩, by decide, ⟨by omega, by omega⟩, H⟩
        · have k1 : 0 < k := by omega
          obtain ⟨w1, w2, w3, w4, w5, w6⟩ := v4 k1
          have b := v6 (B1 0 215 - 1) (by omega) (by omega)
          intro X hX
          rw [hX]
          refine ⟨⟨by omega, by omega⟩, ?_⟩
          (intro zq hzq; replace hzq := hzq.symm; subst hzq)
          exact ⟨⟨by omega, by omega⟩, ⟨by omega, by omega⟩, ⟨by omega, by omega⟩, HP.2 c⟩
      have GO : ∀ A2 B2 : rhM, Rnv A2 B2 (k + 1) x → frx Frh A1 A2 → frx Frm B1 B2 → eS wh YX25_findRuns 2 11 [(0, 2, 210), (1, 2, 251 + 39 * p), (2, 0, y), (3, 0, lf), (4, 0, b), (5, 0, k)] [] A1 11 [(0, 2, 210), (1, 2, 251 + 39 * p), (2, 0, y), (3, 0, lf), (4, 0, x), (5, 0, k + 1)] [] A2 → eS wm YX32_findRuns 2 19 [(0, 2, 0), (1, 0, p), (2, 0, y), (3, 0, t), (4, 0, w), (5, 0, b), (6, 0, k)] [] B1 19 [(0, 2, 0), (1, 0, p), (2, 0, y), (3, 0, t), (4, 0, w), (5, 0, x), (6, 0, k + 1)] [] B2 → ∃ A' B' b', eS wh YX25_findRuns 2 11 [(0, 2, 210), (1, 2, 251 + 39 * p), (2, 0, y), (3, 0, lf), (4, 0, b), (5, 0, k)] [] A1 11 [(0, 2, 210), (1, 2, 251 + 39 * p), (2, 0, y), (3, 0, lf), (4, 0, b'), (5, 0, w)] [] A' ∧ eS wm YX32_findRuns 2 19 [(0, 2, 0), (1, 0, p), (2, 0, y), (3, 0, t), (4, 0, w), (5, 0, b), (6, 0, k)] [] B1 19 [(0, 2, 0), (1, 0, p), (2, 0, y), (3, 0, t), (4, 0, w), (5, 0, b'), (6, 0, w)] [] B' ∧ Rnv A' B' w b' ∧ frx Frh A A' ∧ frx Frm B B' := fun A2 B2 V2 f2 g2 E1 E2 => by
        obtain ⟨A', B', b', F1, F2, F3⟩ := ih (k + 1) x A2 B2 (by omega) (by omega) V2 (fA.tr f2) (gB.tr g2)
        exact ⟨A', B', b', E1.tr F1, E2.tr F2, F3⟩
      clear ih rng hxh bq
      obtain ⟨c, hc⟩ : ∃ c, c = A1 210 1 := ⟨_, rfl⟩
      obtain ⟨N, hN⟩ : ∃ N, N = B1 0 215 := ⟨_, rfl⟩
      obtain ⟨fb, hfb⟩ : ∃ fb, fb = B1 0 216 := ⟨_, rfl⟩
      rw [← hc] at v1 v3 v4 v5 stepH
      rw [← hN] at v3 v4 v6 stepM
      rw [← hfb] at v4 v5 stepM
      by_cases nw : x ≠ b
      · -- a new run on both sides (or the row begins with ink)
        obtain ⟨B2, hB2⟩ : ∃ B2, B2 = rh_set (rh_set (rh_set (rh_set B1 0 216 (rh_if (k = 0) x fb)) 168 N 0) 0 215 (N + 1)) 168 N 1 := ⟨_, rfl⟩
        obtain ⟨A2, hA2⟩ : ∃ A2, A2 = rh_set (rh_set (rh_set A1 210 1 (c + 1)) 211 c 0) 211 c 1 := ⟨_, rfl⟩
        have a1 : A2 210 1 = c + 1 := by rw [hA2, rh_set_a (by decide), rh_set_a (by decide), rh_set_s]
        have a2 : A2 211 c = 1 := by rw [hA2, rh_set_s]
        have a3 : ∀ i, i ≠ c → A2 211 i = A1 211 i := fun i hi => by rw [hA2, rh_set_j hi, rh_set_j hi, rh_set_a (by decide)]
        have e1 : B2 0 215 = N + 1 := by rw [hB2, rh_set_a (by decide), rh_set_s]
        have e2 : B2 168 N = 1 := by rw [hB2, rh_set_s]
        have e3 : ∀ i, i ≠ N → B2 168 i = B1 168 i := fun i hi => by rw [hB2, rh_set_j hi, rh_set_a (by decide), rh_set_j hi, rh_set_a (by decide)]
        have e6 : B2 0 216 = rh_if (k = 0) x fb := by rw [hB2, rh_set_a (by decide), rh_set_j (by decide), rh_set_a (by decide), rh_set_s]
        have fo : ∃ g, rh_if (k = 0) x fb = g ∧ (g = 0 ∨ g = 1) ∧ N + 1 = c + 1 + (1 - g) ∧ (c + 1) % 2 = x ∧ N ≤ k ∧ 0 ≤ N ∧ (0 < k → g = fb) ∧ (k = 0 → c = 0) := by
          by_cases e : k = 0
          · obtain ⟨z1, z2, z3⟩ := v3 e
            rw [rh_if_t e]
            exact ⟨x, rfl, by omega, by omega, by omega, by omega, by omega, fun z => by omega, fun _ => z1⟩
          · obtain ⟨w1, w2, w3, w4, w5, w6⟩ := v4 (by omega)
            rw [rh_if_f e]
            exact ⟨fb, rfl, w1, by omega, by omega, by omega, by omega, fun _ => rfl, fun z => absurd z e⟩
        obtain ⟨g, g0, g1, g2, g3, g4, g5, g6, g7⟩ := fo
        rw [g0] at e6
        refine GO A2 B2 ⟨by rw [a1]; omega, x01, fun z => by omega, fun _ => ?_, fun i i0 i1 => ?_, fun i i0 i1 => ?_⟩ (by rw [hA2]; exact ((frx.rf.st (.inr ⟨rfl, rfl⟩)).st (.inl rfl)).st (.inl rfl)) (by rw [hB2]; exact (((frx.rf.st (.inr ⟨rfl, .inr rfl⟩)).st (.inl rfl)).st (.inr ⟨rfl, .inl rfl⟩)).st (.inl rfl)) (eS.of (fun P HP => stepH P ⟨fun _ => by rw [← hA2]; exact HP, fun z => absurd nw z, fun z => absurd nw z⟩)) (eS.of (fun P HP => stepM P ⟨fun _ => by rw [← hB2]; exact HP, fun z => absurd (.inr nw) z⟩))
        · rw [a1, e1, e6]
          exact ⟨g1, g2, fun z => by omega, g3, by omega, by omega⟩
        · rw [a1] at i1
          rw [e6]
          by_cases e : i = c
          · rw [e, a2, show c + (1 - g) = N by omega, e2]; decide
          · have k1 : 0 < k := by
              rcases Int.lt_or_le 0 k with l | l
              · exact l
              · have := g7 (by omega); omega
            rw [a3 i e, e3 _ (by omega), g6 k1]
            exact v5 i i0 (by omega)
        · rw [e1] at i1
          by_cases e : i = N
          · rw [e, e2]; omega
          · rw [e3 i e]
            have := v6 i i0 (by omega)
            omega
      by_cases k1 : k = 0
      · -- the row begins with white
        obtain ⟨z1, z2, z3⟩ := v3 k1
        have x0 : x = 0 := by omega
        obtain ⟨B2, hB2⟩ : ∃ B2, B2 = rh_set (rh_set (rh_set (rh_set B1 0 216 (rh_if (k = 0) x fb)) 168 N 0) 0 215 (N + 1)) 168 N 1 := ⟨_, rfl⟩
        have e1 : B2 0 215 = N + 1 := by rw [hB2, rh_set_a (by decide), rh_set_s]
        have e2 : B2 168 N = 1 := by rw [hB2, rh_set_s]
        have e6 : B2 0 216 = 0 := by rw [hB2, rh_set_a (by decide), rh_set_j (by decide), rh_set_a (by decide), rh_set_s, rh_if_t k1]; exact x0
        refine GO A1 B2 ⟨by rw [← hc]; omega, x01, fun z => by omega, fun _ => ?_, fun i i0 i1 => by rw [← hc] at i1; omega, fun i i0 i1 => ?_⟩ frx.rf (by rw [hB2]; exact (((frx.rf.st (.inr ⟨rfl, .inr rfl⟩)).st (.inl rfl)).st (.inr ⟨rfl, .inl rfl⟩)).st (.inl rfl)) (eS.of (fun P HP => stepH P ⟨fun z => absurd z nw, fun _ z => by omega, fun _ _ => HP⟩)) (eS.of (fun P HP => stepM P ⟨fun _ => by rw [← hB2]; exact HP, fun z => absurd (.inl k1) z⟩))
        · rw [← hc, e1, e6]
          exact ⟨.inl rfl, by omega, fun _ => rfl, by omega, by omega, by omega⟩
        · rw [e1] at i1
          rw [show i = N by omega, e2]; omega
      · obtain ⟨w1, w2, w3, w4, w5, w6⟩ := v4 (by omega)
        have xb : x = b := Classical.byContradiction (fun z => nw z)
        obtain ⟨B2, hB2⟩ : ∃ B2, B2 = rh_set B1 168 (N - 1) (B1 168 (N - 1) + 1) := ⟨_, rfl⟩
        have e1 : B2 0 215 = N := by rw [hB2, rh_set_a (by decide)]; exact hN.symm
        have e2 : B2 168 (N - 1) = B1 168 (N - 1) + 1 := by rw [hB2, rh_set_s]
        have e3 : ∀ i, i ≠ N - 1 → B2 168 i = B1 168 i := fun i hi => by rw [hB2, rh_set_j hi]
        have e6 : B2 0 216 = fb := by rw [hB2, rh_set_a (by decide)]; exact hfb.symm
        have last : ∀ i, 0 ≤ i → i < N → 0 ≤ B2 168 i ∧ B2 168 i ≤ k + 1 := fun i i0 i1 => by
          have := v6 i i0 i1
          by_cases e : i = N - 1
          · rw [e] at this ⊢; rw [e2]; omega
          · rw [e3 i e]; omega
        have nk : ¬ (k = 0 ∨ x ≠ b) := fun z => z.elim k1 nw
        by_cases cc : 0 < c
        · obtain ⟨A2, hA2⟩ : ∃ A2, A2 = rh_set A1 211 (c - 1) (A1 211 (c - 1) + 1) := ⟨_, rfl⟩
          have a1 : A2 210 1 = c := by rw [hA2, rh_set_a (by decide)]; exact hc.symm
          have a2 : A2 211 (c - 1) = A1 211 (c - 1) + 1 := by rw [hA2, rh_set_s]
          have a3 : ∀ i, i ≠ c - 1 → A2 211 i = A1 211 i := fun i hi => by rw [hA2, rh_set_j hi]
          refine GO A2 B2 ⟨by rw [a1]; omega, x01, fun z => by omega, fun _ => by rw [a1, e1, e6]; exact ⟨w1, w2, w3, by omega, w5, by omega⟩, fun i i0 i1 => ?_, by rw [e1]; exact last⟩ (by rw [hA2]; exact frx.rf.st (.inl rfl)) (by rw [hB2]; exact frx.rf.st (.inl rfl)) (eS.of (fun P HP => stepH P ⟨fun z => absurd z nw, fun _ _ => by rw [← hA2]; exact HP, fun _ z => absurd cc z⟩)) (eS.of (fun P HP => stepM P ⟨fun z => absurd z nk, fun _ => by rw [← hB2]; exact HP⟩))
          rw [a1] at i1
          have v := v5 i i0 i1
          rw [e6]
          by_cases e : i = c - 1
          · rw [e] at v ⊢
            rw [show c - 1 + (1 - fb) = N - 1 by omega] at v ⊢
            rw [a2, e2]; omega
          · rw [a3 i e, e3 _ (by omega)]; exact v
        · refine GO A1 B2 ⟨by rw [← hc]; omega, x01, fun z => by omega, fun _ => by rw [← hc, e1, e6]; exact ⟨w1, w2, w3, by omega, w5, by omega⟩, fun i i0 i1 => by rw [← hc] at i1; omega, by rw [e1]; exact last⟩ frx.rf (by rw [hB2]; exact frx.rf.st (.inl rfl)) (eS.of (fun P HP => stepH P ⟨fun z => absurd z nw, fun _ z => absurd z cc, fun _ _ => HP⟩)) (eS.of (fun P HP => stepM P ⟨fun z => absurd z nk, fun _ => by rw [← hB2]; exact HP⟩))
  obtain ⟨A', B', b', E1, E2, V, fA, gB⟩ := key w.toNat 0 0 (rh_set A 210 1 0) (rh_set B 0 215 0) (by omega) (by decide) ⟨by rw [rh_set_s]; decide, .inl rfl, fun _ => ⟨rh_set_s _ _ _ _, rh_set_s _ _ _ _, rfl⟩, fun z => absurd z (by decide), fun i i0 i1 => by rw [rh_set_s] at i1; omega, fun i i0 i1 => by rw [rh_set_s] at i1; omega⟩ (frx.rf.st (.inr ⟨rfl, rfl⟩)) (frx.rf.st (.inr ⟨rfl, .inl rfl⟩))
  obtain ⟨v1, v2, v3, v4, v5, v6⟩ := V
  obtain ⟨w1, w2, w3, w4, w5, w6⟩ := v4 (by omega)
  have eh1 : A' (251 + 39 * p) 1 = w := by rw [hwe, fA _ _ (by unfold Frh; omega)]; exact q1
  obtain ⟨c, hc⟩ : ∃ c, c = A' 210 1 := ⟨_, rfl⟩
  rw [← hc] at v1 w2 w3 w4 v5
  obtain ⟨c2, hc2⟩ : ∃ c2, c2 = c - rh_if (c % 2 = 0 ∧ 0 < c) (1 : Int) 0 := ⟨_, rfl⟩
  have cb : (c2 = 0 ∧ c = 0) ∨ (c2 % 2 = 1 ∧ 0 ≤ c2 ∧ c2 ≤ c ∧ c ≤ c2 + 1) := by
    rw [hc2]
    by_cases q : c % 2 = 0 ∧ 0 < c
    · rw [rh_if_t q]; omega
    · rw [rh_if_f q]; omega
  refine ⟨rh_set A' 210 1 c2, B', 1 - B' 0 216, eC.of1 (rC1.of (by decide) (LE0 rfl) ?_), eC.of1 (rC1.of (by decide) (LE0 rfl) ?_), ⟨by rw [rh_set_s]; omega, by omega, by rw [rh_set_s]; omega, by rw [rh_set_s]; omega, fun i i0 i1 => ?_, by omega⟩, fA.st (.inr ⟨rfl, rfl⟩), gB⟩
  · refine rh1.of (rX25_findRuns_0 hh _ _ _ _ hb ?_)
    refine rh1.s E1 ?_
    refine rh1.of (rX25_findRuns_11 hh _ _ _ _ _ _ hb ?_)
    rw [eh1, ← hc]
    refine ⟨fun z => by omega, fun _ => ⟨⟨by omega, by omega⟩, ?_⟩⟩
    rw [← hc2]
    (intro zq hzq; replace hzq := hzq.symm; subst hzq)
    exact ⟨⟨by omega, by omega⟩, rfl, rfl⟩
  · refine rh1.of (rX32_findRuns_0 hm _ _ _ _ ?_)
    rw [rh_set_a (by decide), ← hwe]
    refine ⟨hp, ?_⟩
    (intro zq hzq; replace hzq := hzq.symm; subst hzq)
    refine rh1.s E2 ?_
    refine rh1.of (rX32_findRuns_19 hm _ _ _ _ _ _ _ ?_)
    exact ⟨fun z => by omega, fun _ => ⟨rfl, rfl⟩⟩
  · rw [rh_set_s] at i1
    rw [rh_set_a (by decide)]
    have a := v5 i i0 (by omega)
    have b := v6 (i + (1 - B' 0 216)) (by omega) (by omega)
    exact ⟨a.1, a.2, by omega⟩
theorem Rns.rd (hh : rh_hs wh) (hm : rh_ms wm) {A B : rhM} (R : Rpg A B) {p y lf t : Int} (hp : 0 ≤ p ∧ p < 8) (hw : 0 < B 4 p) (hy : 0 ≤ y ∧ y < B 5 p) (ht : (lf = 1 ∧ t = 0) ∨ (lf = 0 ∧ t = 1)) : ∃ v A1 B1 A2 B2, eC wh YX25_findRuns 2 [(2, 210), (2, 251 + 39 * p), (0, y), (0, lf)] A 0 A1 ∧ eC wm YX32_findRuns 2 [(2, 0), (0, p), (0, y), (0, t)] B 0 B1 ∧ eC wh YX25_read 2 [(2, 210)] A1 v A2 ∧ eC wm YX32_findCode 3 [(2, 0)] B1 v B2 ∧ (v = -1 ∨ ((2 ≤ v ∧ v ≤ 14) ∧ Dgs A2 B2 v)) ∧ frx (fun c j => 210 ≤ c ∧ c ≤ 212) A A2 ∧ frx (fun c j => c = 167 ∨ c = 168 ∨ (c = 0 ∧ 215 ≤ j ∧ j ≤ 217)) B B2 := by
  obtain ⟨A1, B1, o, E1, E2, Rn, f1, g1⟩ := t_runs hh hm R hp hw hy ht
  obtain ⟨v, A2, B2, E3, E4, hv, f2, g2⟩ := t_read hh hm Rn
  exact ⟨v, A1, B1, A2, B2, E1, E2, E3, E4, hv, (f1.w (fun c j h => by unfold Frh at h; omega)).tr (f2.w (fun c j h => by unfold Fbh at h; omega)), (g1.w (fun c j h => by unfold Frm at h; omega)).tr (g2.w (fun c j h => by unfold Fbm at h; omega))⟩
def Fba (c j : Int) : Prop := (210 ≤ c ∧ c ≤ 212) ∨ Fou c j
def Gba (c j : Int) : Prop := c = 2 ∨ c = 167 ∨ c = 168 ∨ (c = 0 ∧ (j = 0 ∨ j = 4 ∨ (215 ≤ j ∧ j ≤ 217)))
theorem h_put (hh : rh_hs wh) {A0 : rhM} {n : Int} (hn : n ≤ 14) (hd : ∀ k, 0 ≤ k → k < n → 0 ≤ A0 212 k ∧ A0 212 k ≤ 9) : ∀ (m : Nat) (k : Int) (A : rhM), k + m = n → 0 ≤ k → frx Fou A0 A → Wou A (fun t => 48 + A0 212 t) k → ∃ A', (∀ P : Int → rhM → Prop, P n (m_end A' n) → rh1 wh YX1_barsAt 4 65 [(0, 2, 0), (3, 0, n), (4, 0, k)] [] A P) ∧ frx Fou A0 A' ∧ Wou A' (fun t => 48 + A0 212 t) n := by
  intro m
  induction m with
  | zero =>
    intro k A hk k0 f wo
    have e : k = n := (by omega)
    rw [e] at wo ⊢
    refine ⟨A, fun P HP => ?_, f, wo⟩
    refine rh1.of (rX1_barsAt_65 hh _ _ _ ?_)
    refine ⟨fun z => by omega, fun _ => ?_⟩
    refine rh1.s (vX1_barsAt_101 hh ((c_end hh A wo.1 (by omega)).2 (by omega)) (LE0 rfl)) ?_
    refine rh1.of (rX1_barsAt_104 hh _ _ ?_)
    exact HP
  | succ m ih =>
    intro k A hk k0 f wo
    have d := hd k k0 (by omega)
    obtain ⟨A', E, r⟩ := ih (k + 1) (rh_set (rh_set A 6 k (rh_i2b (48 + A0 212 k))) 4 3 (k + 1)) (by omega) (by omega) ((f.st (by unfold Fou; omega)).st (by unfold Fou; omega)) ⟨rh_set_s _ _ _ _, fun t t0 t1 => by
      rw [rh_set_a (by decide)]
      by_cases e : t = k
      · rw [e, rh_set_s]
      · rw [rh_set_j e]; exact wo.2 t t0 (by omega)⟩
    refine ⟨A', fun P HP => ?_, r⟩
    refine rh1.of (rX1_barsAt_65 hh _ _ _ ?_)
    rw [wo.1, rh_if_t (show k < 6000 by omega), rh_set_a (by decide), wo.1, f 212 k (by unfold Fou; omega)]
    exact ⟨fun _ => ⟨⟨by omega, by omega⟩, ⟨by omega, by omega⟩, fun _ => ⟨by omega, by omega⟩, ⟨by omega, by omega⟩, ⟨by omega, by omega⟩, E P HP⟩, fun z => by omega⟩
theorem m_put (hm : rh_ms wm) {B0 : rhM} {n : Int} (hn : n ≤ 14) (hd : ∀ k, 0 ≤ k → k < n → 0 ≤ B0 167 k ∧ B0 167 k ≤ 9) : ∀ (m : Nat) (k : Int) (B : rhM), k + m = n → 0 ≤ k → frx (fun c _ => c = 2) B0 B → (∀ t, 0 ≤ t → t < k → B 2 t = 48 + B0 167 t) → ∃ B', (∀ P : Int → rhM → Prop, P n B' → rh1 wm YX32_barsAt 4 81 [(0, 2, 0), (3, 0, n), (4, 0, k)] [] B P) ∧ frx (fun c _ => c = 2) B0 B' ∧ (∀ t, 0 ≤ t → t < n → B' 2 t = 48 + B0 167 t) := by
  intro m
  induction m with
  | zero =>
    intro k B hk k0 f h
    have e : k = n := (by omega)
    rw [e] at h ⊢
    refine ⟨B, fun P HP => ?_, f, h⟩
    refine rh1.of (rX32_barsAt_81 hm _ _ _ ?_)
    exact ⟨fun z => by omega, fun _ => HP⟩
  | succ m ih =>
    intro k B hk k0 f h
    have d := hd k k0 (by omega)
    obtain ⟨B', E, r⟩ := ih (k + 1) (rh_set B 2 k (48 + B0 167 k)) (by omega) (by omega) (f.st rfl) (fun t t0 t1 => by
      by_cases e : t = k
      · rw [e, rh_set_s]
      · rw [rh_set_j e]; exact h t t0 (by omega))
    refine ⟨B', fun P HP => ?_, r⟩
    refine rh1.of (rX32_barsAt_81 hm _ _ _ ?_)
    rw [f 167 k (by omega)]
    exact ⟨fun _ => ⟨⟨by omega, by omega⟩, ⟨by omega, by omega⟩, ⟨by omega, by omega⟩, ⟨by omega, by omega⟩, E P HP⟩, fun z => by omega⟩
theorem op_barsAt (hh : rh_hs wh) (hm : rh_ms wm) {Mh Mm : rhM} (O : Rou Mh Mm) (R : Rpg Mh Mm) (x1 x2 : Int) : rC2 wh YX1_barsAt 4 [(2, 0), (0, x1), (0, x2)] Mh wm YX32_barsAt 4 [(2, 0), (0, x1), (0, x2)] Mm (fun r M' r2 M2' => r = r2 ∧ Rou M' M2' ∧ frx Fba Mh M' ∧ frx Gba Mm M2') := by
  obtain ⟨M0, hM0⟩ : ∃ M0, M0 = rh_set Mm 0 0 0 := ⟨_, rfl⟩
  have en : ∀ c k, 0 < c → M0 c k = Mm c k := fun c k h => by rw [hM0]; exact rh_set_a (by omega)
  have g0 : frx Gba Mm M0 := by rw [hM0]; exact frx.rf.st (by unfold Gba; omega)
  have R0 : Rpg Mh M0 := R.fx (F := fun _ _ => False) (G := fun c j => c = 0 ∧ j = 0) frx.rf (by rw [hM0]; exact frx.rf.st ⟨rfl, rfl⟩) (fun p a j _ _ hf => hf.elim) (fun a j hf => by omega)
  have O0 : Rou Mh M0 := by
    obtain ⟨o1, o2, o3, o4⟩ := O
    have e4 : M0 0 4 = Mm 0 4 := by rw [hM0]; exact rh_set_j (by decide)
    unfold Rou
    rw [e4]
    exact ⟨o1, o2, o3, fun k k0 k1 => by rw [en 2 k (by decide)]; exact o4 k k0 k1⟩
  have i1 := R0.is x1
  by_cases c : ((0 ≤ x1) ∧ (x1 ≤ 7)) ∧ (0 < M0 4 x1)
  case neg =>
    refine ⟨-101, Mh, -101, M0, eC.of1 (rC1.of (by decide) (LE0 rfl) ?_), eC.of1 (rC1.of (by decide) (LE0 rfl) ?_), rfl, O0, frx.rf, g0⟩
    · refine rh1.of (rX1_barsAt_0 hh _ _ _ ?_)
      exact ⟨fun _ => ⟨by omega, by omega⟩, fun _ => ⟨rfl, rfl⟩, fun z => absurd (fun s => c (i1.mp s)) z⟩
    · refine rh1.of (rX32_barsAt_0 hm _ _ _ ?_)
      rw [← hM0]
      exact ⟨fun _ => ⟨by omega, by omega⟩, fun _ => ⟨rfl, rfl⟩, fun z => absurd c z⟩
  have hp : 0 ≤ x1 ∧ x1 < 8 := by omega
  obtain ⟨q1, q2, q3, q4, q5, q6, q7, q8, -⟩ := id (R0 x1 hp.1 hp.2).1
  by_cases d : (0 ≤ x2) ∧ (x2 ≤ M0 5 x1 - 1)
  case neg =>
    refine ⟨-102, Mh, -102, M0, eC.of1 (rC1.of (by decide) (LE0 rfl) ?_), eC.of1 (rC1.of (by decide) (LE0 rfl) ?_), rfl, O0, frx.rf, g0⟩
    · refine rh1.of (rX1_barsAt_0 hh _ _ _ ?_)
      rw [q2]
      exact ⟨fun _ => ⟨by omega, by omega⟩, fun z => absurd (i1.mpr c) z, fun _ => ⟨⟨by omega, by omega⟩, ⟨by omega, by omega⟩, fun _ => ⟨rfl, rfl⟩, fun z => absurd d z⟩⟩
    · refine rh1.of (rX32_barsAt_0 hm _ _ _ ?_)
      rw [← hM0]
      exact ⟨fun _ => ⟨by omega, by omega⟩, fun z => absurd c z, fun _ => ⟨⟨by omega, by omega⟩, ⟨by omega, by omega⟩, fun _ => ⟨rfl, rfl⟩, fun z => absurd d z⟩⟩
  have hy : 0 ≤ x2 ∧ x2 < M0 5 x1 := by omega
  have hb := hs_pg hh hp.1 hp.2
  obtain ⟨v, A1, B1, A2, B2, E1, E2, E3, E4, hv, f2, g2⟩ := Rns.rd hh hm R0 hp c.2 hy (lf := 1) (t := 0) (.inl ⟨rfl, rfl⟩)
  have R2 : Rpg A2 B2 := R0.fx f2 g2 (fun p a j p0 p1 h => by omega) (fun a j h => by omega)
  obtain ⟨v', A3, B3, A4, B4, E5, E6, E7, E8, hv', f4, g4⟩ := Rns.rd hh hm R2 hp (by rw [g2 4 x1 (by omega)]; exact c.2) (by rw [g2 5 x1 (by omega)]; exact hy) (lf := 0) (t := 1) (.inr ⟨rfl, rfl⟩)
  -- the house's find, then what both do with it
  have HS : ∀ (r : Int) (A : rhM) (P : Int → rhM → Prop), eC wh YX25_find 3 [(2, 210), (2, 251 + 39 * x1), (0, x2)] Mh r A → rh1 wh YX1_barsAt 4 49 [(0, 2, 0)] [(0, r)] A P → rh1 wh YX1_barsAt 4 0 [(0, 2, 0), (1, 0, x1), (2, 0, x2)] [] Mh P := fun r A P K HP => by
    refine rh1.of (rX1_barsAt_0 hh _ _ _ ?_)
    rw [q2]
    exact ⟨fun _ => ⟨by omega, by omega⟩, fun z => absurd (i1.mpr c) z, fun _ => ⟨⟨by omega, by omega⟩, ⟨by omega, by omega⟩, fun z => absurd d z, fun _ => ⟨⟨by omega, by omega⟩, rh1.s (vX1_barsAt_46 hh K (LE0 rfl)) HP⟩⟩⟩
  have MS : ∀ P : Int → rhM → Prop, rh1 wm YX32_barsAt 4 48 [(0, 2, 0), (1, 0, x1), (2, 0, x2)] [(0, v)] B2 P → rh1 wm YX32_barsAt 4 0 [(0, 2, 0), (1, 0, x1), (2, 0, x2)] [] Mm P := fun P HP => by
    refine rh1.of (rX32_barsAt_0 hm _ _ _ ?_)
    rw [← hM0]
    refine ⟨fun _ => ⟨by omega, by omega⟩, fun z => absurd c z, fun _ => ⟨⟨by omega, by omega⟩, ⟨by omega, by omega⟩, fun z => absurd d z, fun _ => ?_⟩⟩
    refine rh1.s (vX32_barsAt_41 hm E2 (LE0 rfl)) ?_
    refine rh1.of (rX32_barsAt_44 hm _ _ _ ?_)
    exact rh1.s (vX32_barsAt_45 hm E4 (LE0 rfl)) HP
  have fin : ∀ (r : Int) (A B : rhM), (r = -1 ∨ ((2 ≤ r ∧ r ≤ 14) ∧ Dgs A B r)) → eC wh YX25_find 3 [(2, 210), (2, 251 + 39 * x1), (0, x2)] Mh r A → (∀ P : Int → rhM → Prop, (r = -1 → P (-1) B) → (r ≠ -1 → rh1 wm YX32_barsAt 4 81 [(0, 2, 0), (3, 0, r), (4, 0, 0)] [] (rh_set B 0 4 r) P) → rh1 wm YX32_barsAt 4 0 [(0, 2, 0), (1, 0, x1), (2, 0, x2)] [] Mm P) → frx (fun c j => 210 ≤ c ∧ c ≤ 212) Mh A → frx (fun c j => c = 167 ∨ c = 168 ∨ (c = 0 ∧ 215 ≤ j ∧ j ≤ 217)) M0 B → rC2 wh YX1_barsAt 4 [(2, 0), (0, x1), (0, x2)] Mh wm YX32_barsAt 4 [(2, 0), (0, x1), (0, x2)] Mm (fun r M' r2 M2' => r = r2 ∧ Rou M' M2' ∧ frx Fba Mh M' ∧ frx Gba Mm M2') := by
    intro r A B hr K MM fA gB
    have gB' : frx Gba Mm B := g0.tr (gB.w (fun c j h => by unfold Gba; omega))
    rcases hr with rfl | ⟨rb, D⟩
    · refine ⟨-1, A, -1, B, eC.of1 (rC1.of (by decide) (LE0 rfl) (HS _ _ _ K ?_)), eC.of1 (rC1.of (by decide) (LE0 rfl) (MM _ (fun _ => ⟨rfl, rfl⟩) (fun z => absurd rfl z))), rfl, ?_, fA.w (fun c j h => .inl h), gB'⟩
      · refine rh1.of (rX1_barsAt_49 hh _ _ ?_)
        exact ⟨fun z => absurd rfl z, fun _ => ⟨rfl, rfl⟩⟩
      · obtain ⟨o1, o2, o3, o4⟩ := O0
        unfold Rou
        rw [gB 0 4 (by omega), fA 4 1 (by omega)]
        exact ⟨o1, o2, o3, fun k k0 k1 => by rw [gB 2 k (by omega), fA 5 k (by omega)]; exact o4 k k0 k1⟩
    · obtain ⟨A', EA, fA', W⟩ := h_put hh (A0 := A) (n := r) rb.2 (fun k k0 k1 => by rw [(D k k0 k1).1]; exact (D k k0 k1).2) r.toNat 0 (rh_set A 4 3 0) (by omega) (by decide) (frx.rf.st (by unfold Fou; omega)) ⟨rh_set_s _ _ _ _, fun t t0 t1 => by omega⟩
      obtain ⟨B', EB, gB2, h2⟩ := m_put hm (B0 := rh_set B 0 4 r) (n := r) rb.2 (fun k k0 k1 => by rw [rh_set_a (by decide)]; exact (D k k0 k1).2) r.toNat 0 (rh_set B 0 4 r) (by omega) (by decide) frx.rf (fun t t0 t1 => by omega)
      refine ⟨r, m_end A' r, r, B', eC.of1 (rC1.of (by decide) (LE0 rfl) (HS _ _ _ K ?_)), eC.of1 (rC1.of (by decide) (LE0 rfl) (MM _ (fun z => by omega) (fun _ => EB _ ⟨rfl, rfl⟩))), rfl, W.fin ⟨by omega, by omega⟩ (by rw [gB2 0 4 (by omega), rh_set_s]) (fun k k0 k1 => ?_), ?_, ?_⟩
      · refine rh1.of (rX1_barsAt_49 hh _ _ ?_)
        exact ⟨fun _ => EA _ ⟨rfl, rfl⟩, fun z => absurd (show r ≠ -1 by omega) z⟩
      · have dk := D k k0 k1
        rw [h2 k k0 k1, rh_set_a (by decide), dk.1]
        omega
      · unfold m_end
        exact (((fA.w (fun c j h => .inl h)).tr (fA'.w (fun c j h => .inr h))).cpy (fun j _ _ => by unfold Fba Fou; omega)).st (by unfold Fba Fou; omega)
      · exact (gB'.st (by unfold Gba; omega)).tr (gB2.w (fun c j h => by unfold Gba; omega))
  by_cases z : v = -1
  · refine fin v' A4 B4 hv' (eC.of1 (rC1.of (by decide) (LE0 rfl) ?_)) (fun P H1 H2 => MS P ?_) (f2.tr f4) (g2.tr g4)
    · refine rh1.of (rX25_find_0 hh _ _ _ hb ?_)
      refine rh1.s (vX25_find_4 hh E1 (LE0 rfl)) ?_
      refine rh1.of (rX25_find_7 hh _ _ _ hb ?_)
      refine rh1.s (vX25_find_8 hh E3 (LE0 rfl)) ?_
      refine rh1.of (rX25_find_11 hh _ _ _ _ hb ?_)
      refine ⟨fun _ => rh1.s (vX25_find_21 hh E5 (LE0 rfl)) ?_, fun y => absurd z y⟩
      refine rh1.of (rX25_find_24 hh _ ?_)
      refine rh1.s (vX25_find_25 hh E7 (LE0 rfl)) ?_
      refine rh1.of (rX25_find_28 hh _ _ ?_)
      exact ⟨rfl, rfl⟩
    · refine rh1.of (rX32_barsAt_48 hm _ _ _ _ ?_)
      refine ⟨fun _ => rh1.s (vX32_barsAt_58 hm E6 (LE0 rfl)) ?_, fun y => absurd z y⟩
      refine rh1.of (rX32_barsAt_61 hm _ ?_)
      refine rh1.s (vX32_barsAt_62 hm E8 (LE0 rfl)) ?_
      refine rh1.of (rX32_barsAt_65 hm _ _ ?_)
      exact ⟨H1, H2⟩
  · refine fin v A2 B2 hv (eC.of1 (rC1.of (by decide) (LE0 rfl) ?_)) (fun P H1 H2 => MS P ?_) f2 g2
    · refine rh1.of (rX25_find_0 hh _ _ _ hb ?_)
      refine rh1.s (vX25_find_4 hh E1 (LE0 rfl)) ?_
      refine rh1.of (rX25_find_7 hh _ _ _ hb ?_)
      refine rh1.s (vX25_find_8 hh E3 (LE0 rfl)) ?_
      refine rh1.of (rX25_find_11 hh _ _ _ _ hb ?_)
      exact ⟨fun y => absurd y z, fun _ => ⟨rfl, rfl⟩⟩
    · refine rh1.of (rX32_barsAt_48 hm _ _ _ _ ?_)
      exact ⟨fun y => absurd y z, fun _ => ⟨fun y => absurd y z, fun _ => H2 z⟩⟩
end BarsOp
