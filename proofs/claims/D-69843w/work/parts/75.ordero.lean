/-! ===== LAYER 2: putInOrder and orderBlocks ===== -/
section OrderO
variable {wh wm : rhW} {L T R B : Int → Int} {n : Int}
theorem eS.of {w : rhW} {Y : rhY} {h pc : Nat} {L : rhL} {S : List rhA} {M : rhM} {pc' : Nat} {L' : rhL} {S' : List rhA} {M' : rhM} (H : ∀ P, rh1 w Y h pc' L' S' M' P → rh1 w Y h pc L S M P) : eS w Y h pc L S M pc' L' S' M' := fun r M0 E => by
  obtain ⟨r', M1, a, e1, e2⟩ := H (fun r1 M1 => r1 = r ∧ M1 = M0) ⟨r, M0, E, rfl, rfl⟩
  subst e1 e2
  exact a
def off (p v : Int) : Int := if v = -1 then -1 else 20 * p + v
noncomputable def nxo (L T R B : Int → Int) (n : Int) (D : Int → Prop) : Int := if nxt (fun i => D i ∧ fre L T R B n D i) T L n.toNat = -1 then nxt D T L n.toNat else nxt (fun i => D i ∧ fre L T R B n D i) T L n.toNat
theorem nxt_off {al : Int → Prop} {p b v : Int} {k : Nat} (hp : 0 ≤ p) (hal : al k) (hb : b = off p (nxt al T L k)) (h1 : b = -1 → v = 20 * p + k) (h2 : b ≠ -1 → v = rh_if (T k < T (nxt al T L k) ∨ (T k = T (nxt al T L k) ∧ (L k < L (nxt al T L k) ∨ (L k = L (nxt al T L k) ∧ 20 * p + k < 20 * p + nxt al T L k)))) (20 * p + k) b) : v = off p (nxt al T L (k + 1)) := by
  simp only [nxt]
  unfold off at hb ⊢
  rcases nxt_b (al := al) (T := T) (L := L) k with q | ⟨q1, q2, q3⟩
  · rw [if_pos q] at hb
    rw [h1 hb, rh_if_t ⟨hal, .inl q⟩, if_neg (by omega)]
  · generalize nxt al T L k = z at *
    rw [if_neg (by omega)] at hb
    have e := h2 (by omega)
    rw [e]
    by_cases c : T k < T z ∨ (T k = T z ∧ L k < L z)
    · rw [rh_if_t (by omega), rh_if_t ⟨hal, .inr c⟩, if_neg (by omega)]
    · rw [rh_if_f (by omega), rh_if_f (fun y => by rcases y.2 with y | y; omega; exact c y), if_neg (by omega), hb]
theorem m_place (hm : rh_ms wm) {p pl : Int} (hp : 0 ≤ p ∧ p < 8) (M : rhM) (hN : M 24 p = n) (hn0 : 0 ≤ n) (hn : n ≤ 20) (hB : BxN M p n L T R B) (hb : Bxb L T R B n) (h0 : 0 ≤ pl ∧ pl < n) (hx : 0 ≤ nxo L T R B n (fun i => M 31 (20 * p + i) = -1)) (hx1 : nxo L T R B n (fun i => M 31 (20 * p + i) = -1) < n) :
    eS wm YX32_orderBlocks 2 34 [(0, 2, 0), (1, 0, p), (2, 0, n), (3, 0, pl)] [] M 34 [(0, 2, 0), (1, 0, p), (2, 0, n), (3, 0, pl + 1)] [] (rh_set (rh_set M 31 (20 * p + nxo L T R B n (fun i => M 31 (20 * p + i) = -1)) pl) 47 pl (nxo L T R B n (fun i => M 31 (20 * p + i) = -1))) := by
  refine eS.of (fun P HP => ?_)
  generalize hD : (fun i => M 31 (20 * p + i) = -1) = D at hx hx1 HP
  have hD' : ∀ i, D i = (M 31 (20 * p + i) = -1) := fun i => by rw [← hD]
  clear hD
  replace hD' := Hid.mk hD'
  refine rh1.of (rX32_orderBlocks_34 hm _ _ _ _ ?_)
  refine ⟨fun c => ⟨⟨by omega, by omega⟩, ?_⟩, fun c => by omega⟩
  have key : ∀ (vq : Nat) (k : Nat) (b a : Int), (n - k).toNat = vq → (k : Int) ≤ n → b = off p (nxt (fun i => D i ∧ fre L T R B n D i) T L k) → a = off p (nxt D T L k) → rh1 wm YX32_orderBlocks 2 51 [(0, 2, 0), (1, 0, p), (2, 0, n), (3, 0, pl), (4, 0, b), (5, 0, a), (6, 0, 20 * p + (k : Int))] [] M P := by
    intro vq
    induction vq using Nat.strongRecOn with
    | ind vq ih =>
      intro k b a hvq k1 eb ea
      have eK : 20 * p + (k : Int) + 1 = 20 * p + ((k + 1 : Nat) : Int) := (by omega)
      have kr : rI (20 * p + (k : Int) + 1) := ⟨by omega, by omega⟩
      refine rh1.of (rX32_orderBlocks_51 hm _ _ _ _ _ _ _ ?_)
      refine ⟨⟨by omega, by omega⟩, fun c => ⟨⟨by omega, by omega⟩, fun d => ⟨kr, ?_⟩, fun d => ⟨⟨by omega, by omega⟩, ?_⟩⟩, fun c => ?_⟩
      · rw [eK]
        have nd : ¬ D k := by rw [hD'.out]; exact d
        refine ih _ (by omega) (k + 1) b a rfl (by omega) ?_ ?_
        · simp only [nxt]; rw [rh_if_f (fun z => nd z.1.1)]; exact eb
        · simp only [nxt]; rw [rh_if_f (fun z => nd z.1)]; exact ea
      · have dk : D k := by rw [hD'.out]; by_cases q : M 31 (20 * p + (k : Int)) = -1; exact q; exact absurd q d
        have ar : a ≠ -1 → 0 ≤ nxt D T L k ∧ nxt D T L k < k ∧ a = 20 * p + nxt D T L k := fun q => by
          unfold off at ea
          rcases nxt_b (al := D) (T := T) (L := L) k with q1 | ⟨q1, q2, q3⟩
          · rw [if_pos q1] at ea; exact absurd ea q
          · rw [if_neg (by omega)] at ea; exact ⟨q1, q2, ea⟩
        have br : b ≠ -1 → 0 ≤ nxt (fun i => D i ∧ fre L T R B n D i) T L k ∧ nxt (fun i => D i ∧ fre L T R B n D i) T L k < k ∧ b = 20 * p + nxt (fun i => D i ∧ fre L T R B n D i) T L k := fun q => by
          unfold off at eb
          rcases nxt_b (al := fun i => D i ∧ fre L T R B n D i) (T := T) (L := L) k with q1 | ⟨q1, q2, q3⟩
          · rw [if_pos q1] at eb; exact absurd eb q
          · rw [if_neg (by omega)] at eb; exact ⟨q1, q2, eb⟩
        replace ar := Hid.mk ar
        replace br := Hid.mk br
        obtain ⟨hk1, hk2, -, -⟩ := hB k (by omega) (by omega)
        -- the second choice
        have f2 : ∀ b', b' = off p (nxt (fun i => D i ∧ fre L T R B n D i) T L (k + 1)) → (a ≠ -1 → rh1 wm YX32_orderBlocks 2 186 [(0, 2, 0), (1, 0, p), (2, 0, n), (3, 0, pl), (4, 0, b'), (5, 0, a), (6, 0, 20 * p + (k : Int))] [(0, a), (0, 20 * p + (k : Int)), (2, 0)] M P) ∧ (¬ (a ≠ -1) → ∀ a', a' = 20 * p + (k : Int) → (rI (20 * p + (k : Int) + 1) ∧ rh1 wm YX32_orderBlocks 2 51 [(0, 2, 0), (1, 0, p), (2, 0, n), (3, 0, pl), (4, 0, b'), (5, 0, a'), (6, 0, 20 * p + (k : Int) + 1)] [] M P)) := by
          intro b' eb'
          refine ⟨fun q => ?_, fun q a' ea' => ⟨kr, ?_⟩⟩
          · obtain ⟨r1, r2, r3⟩ := ar.out q
            refine rh1.s (vX32_orderBlocks_186 hm (c_isEarlier hm M (i := 20 * p + (k : Int)) (j := a) ⟨by omega, by omega⟩ ⟨by omega, by omega⟩) (LE0 rfl)) ?_
            refine rh1.of (rX32_orderBlocks_189 hm _ _ _ _ _ _ _ _ ?_)
            intro v ev
            refine ⟨kr, ?_⟩
            rw [eK]
            refine ih _ (by omega) (k + 1) b' v rfl (by omega) eb' (nxt_off hp.1 dk ea (fun z => absurd z q) (fun _ => ?_))
            obtain ⟨g1, g2, -, -⟩ := hB (nxt D T L k) r1 (by omega)
            rw [ev]
            refine rh_if_cg ?_
            rw [if1_ne, r3, g1, g2, hk1, hk2]
          · rw [eK]
            refine ih _ (by omega) (k + 1) b' a' rfl (by omega) eb' (nxt_off hp.1 dk ea (fun _ => ea') (fun z => absurd z q))
        -- whether it is free
        have key2 : ∀ (vq : Nat) (t v : Int), (n - t).toNat = vq → 0 ≤ t → t ≤ n → v = rh_if (∀ s, 0 ≤ s → s < t → s ≠ k → D s → ¬ gob L T R B n s k) 1 0 → rh1 wm YX32_orderBlocks 2 85 [(0, 2, 0), (1, 0, p), (2, 0, n), (3, 0, pl), (4, 0, b), (5, 0, a), (6, 0, 20 * p + (k : Int)), (7, 0, v), (8, 0, 20 * p + t)] [] M P := by
          intro vq
          induction vq using Nat.strongRecOn with
          | ind vq ih2 =>
            intro t v hvq t0 t1 ev
            refine rh1.of (rX32_orderBlocks_85 hm _ _ _ _ _ _ _ _ _ ?_)
            refine ⟨⟨by omega, by omega⟩, fun g => ⟨fun _ => ⟨by omega, by omega⟩, fun y => ?_, fun y w ew => ⟨⟨by omega, by omega⟩, ?_⟩⟩, fun g => ?_⟩
            · refine rh1.s (vX32_orderBlocks_125 hm (c_goesBeforeM hm hp M hN hn hB hb (i := t) (j := k) ⟨by omega, by omega⟩ ⟨by omega, by omega⟩) (LE0 rfl)) ?_
              refine rh1.of (rX32_orderBlocks_128 hm _ _ _ _ _ _ _ _ _ ?_)
              intro w ew
              refine ⟨⟨by omega, by omega⟩, ?_⟩
              rw [show 20 * p + t + 1 = 20 * p + (t + 1) by omega]
              refine ih2 _ (by omega) (t + 1) w rfl (by omega) (by omega) ?_
              rw [ew]
              refine rh_if_cg ?_
              have g2 := g.2
              rw [ev, if1_ne] at g2
              rw [if1_0]
              refine ⟨fun q s s0 s1 sk sd => ?_, fun q => q t t0 (by omega) (fun e => y.1 (by rw [e])) (by rw [hD'.out]; exact y.2)⟩
              by_cases e : s = t
              · rw [e]; exact q
              · exact g2 s s0 (by omega) sk sd
            · rw [show 20 * p + t + 1 = 20 * p + (t + 1) by omega]
              refine ih2 _ (by omega) (t + 1) w rfl (by omega) (by omega) ?_
              have g2 := g.2
              rw [ev, if1_ne] at g2
              rw [ew, rh_if_t]
              intro s s0 s1 sk sd
              by_cases e : s = t
              · rw [hD'.out, e] at sd
                exact absurd ⟨fun z => sk (by omega), sd⟩ y
              · exact g2 s s0 (by omega) sk sd
            · have fr : v ≠ 0 ↔ fre L T R B n D k := by
                rw [ev, if1_ne]
                refine ⟨fun q s s0 s1 => ?_, fun q s s0 s1 => q s s0 (by omega)⟩
                by_cases e : 20 * p + t < 20 * p + n
                · exact absurd ⟨e, by rw [ev]; exact if1_ne.mpr q⟩ g
                · exact q s s0 (by omega)
              refine ⟨fun h => ⟨fun q => ?_, fun q w ew => f2 w (nxt_off hp.1 ⟨dk, fr.mp h⟩ eb (fun _ => ew) (fun z => absurd z q))⟩, fun h w ew => f2 w ?_⟩
              · obtain ⟨r1, r2, r3⟩ := br.out q
                refine rh1.s (vX32_orderBlocks_160 hm (c_isEarlier hm M (i := 20 * p + (k : Int)) (j := b) ⟨by omega, by omega⟩ ⟨by omega, by omega⟩) (LE0 rfl)) ?_
                refine rh1.of (rX32_orderBlocks_163 hm _ _ _ _ _ _ _ _ ?_)
                intro w ew
                refine f2 w (nxt_off hp.1 ⟨dk, fr.mp h⟩ eb (fun z => absurd z q) (fun _ => ?_))
                obtain ⟨g1, g2, -, -⟩ := hB (nxt (fun i => D i ∧ fre L T R B n D i) T L k) r1 (by omega)
                rw [ew]
                refine rh_if_cg ?_
                rw [if1_ne, r3, g1, g2, hk1, hk2]
              · rw [ew, eb]
                simp only [nxt]
                rw [rh_if_f (fun z => h (fr.mpr z.1.2))]
        have h0 := key2 _ 0 1 rfl (by omega) (by omega) (by rw [rh_if_t]; intro s s0 s1; omega)
        rwa [Int.add_zero] at h0
      · intro w ew
        have ek : k = n.toNat := (by omega)
        have e2 : w = 20 * p + nxo L T R B n D := by
          rw [ew, rh_ifd, eb, ea, ek]
          unfold nxo off at *
          by_cases q : nxt (fun i => D i ∧ fre L T R B n D i) T L n.toNat = -1
          · rw [if_pos q] at hx ⊢
            rw [if_pos rfl, if_neg (by omega), if_pos q]
          · rw [if_neg q] at hx ⊢
            rw [if_neg (by omega), if_neg q]
        rw [e2]
        refine ⟨⟨by omega, by omega⟩, ⟨by omega, by omega⟩, ⟨by omega, by omega⟩, ⟨by omega, by omega⟩, ?_⟩
        rw [show 20 * p + nxo L T R B n D - 20 * p = nxo L T R B n D by omega]
        exact HP
  have h0 := key _ 0 (-1) (-1) rfl (by omega) rfl rfl
  rwa [show 20 * p + ((0 : Nat) : Int) = 20 * p by omega] at h0
/-- the order of blocks agrees -/
def Ordd (M1 M2 : rhM) (x p n : Int) : Prop := (∀ i, 0 ≤ i → i < n → M1 (x + 5) i = M2 31 (20 * p + i) ∧ 0 ≤ M2 31 (20 * p + i) ∧ M2 31 (20 * p + i) < n ∧ M2 47 (M2 31 (20 * p + i)) = i) ∧ ∀ t, 0 ≤ t → t < n → M1 (x + 7) t = M2 47 t ∧ 0 ≤ M2 47 t ∧ M2 47 t < n ∧ M2 31 (20 * p + M2 47 t) = t
theorem c_order (hh : rh_hs wh) (hm : rh_ms wm) {x p : Int} (hx : rh_bl wh 1 x 0) (hp : 0 ≤ p ∧ p < 8) (Mh Mm : rhM) (hNh : Mh x 1 = n) (hN : Mm 24 p = n) (hn0 : 0 ≤ n) (hn : n ≤ 20) (hBh : BxH Mh x n L T R B) (hB : BxN Mm p n L T R B) (hb : Bxb L T R B n) :
    rC2 wh YX30_putInOrder 5 [(2, x)] Mh wm YX32_orderBlocks 2 [(2, 0), (0, p)] Mm (fun r M1 r2 M2 => frx (fun c _ => c = x + 5 ∨ c = x + 7 ∨ c = x + 8) Mh M1 ∧ frx (fun c j => (c = 31 ∧ 20 * p ≤ j ∧ j < 20 * p + 20) ∨ c = 47) Mm M2 ∧ Ordd M1 M2 x p n) := by
  refine rC2.of (by decide) (LE0 rfl) (by decide) (LE0 rfl) ?_
  refine rh2.l (rX30_putInOrder_0 hh _ _ hx ?_)
  have key : ∀ (vq : Nat) (k : Int) (M1 : rhM), (n - k).toNat = vq → 0 ≤ k → k ≤ n → frx (fun c _ => c = x + 5 ∨ c = x + 7 ∨ c = x + 8) Mh M1 → (∀ i, 0 ≤ i → i < k → M1 (x + 8) i = 0) → rh2 wh YX30_putInOrder 5 2 [(0, 2, x), (1, 0, k)] [] M1 wm YX32_orderBlocks 2 0 [(0, 2, 0), (1, 0, p)] [] Mm (fun r M1 r2 M2 => frx (fun c _ => c = x + 5 ∨ c = x + 7 ∨ c = x + 8) Mh M1 ∧ frx (fun c j => (c = 31 ∧ 20 * p ≤ j ∧ j < 20 * p + 20) ∨ c = 47) Mm M2 ∧ Ordd M1 M2 x p n) := by
    intro vq
    induction vq using Nat.strongRecOn with
    | ind vq ih =>
      intro k M1 hvq k0 k1 f1 h1
      refine rh2.l (rX30_putInOrder_2 hh _ _ _ hx ?_)
      rw [f1 x 1 (by omega), hNh]
      refine ⟨fun c => ⟨⟨by omega, by omega⟩, ⟨by omega, by omega⟩, ih _ (by omega) (k + 1) _ rfl (by omega) (by omega) (f1.st (by omega)) (fun i i0 i1 => ?_)⟩, fun c => ?_⟩
      · rw [rh_sets, if_pos rfl]
        split
        · rfl
        · exact h1 i i0 (by omega)
      · refine rh2.r (rX32_orderBlocks_0 hm _ _ ?_)
        refine ⟨hp, ?_⟩
        rw [hN]
        have key2 : ∀ (vq : Nat) (i : Int) (M2 : rhM), (n - i).toNat = vq → (0 ≤ i) → (i ≤ n) → (frx (fun c j => (c = 31 ∧ 20 * p ≤ j ∧ j < 20 * p + 20) ∨ c = 47) Mm M2) → ((∀ j, 0 ≤ j → j < i → M2 31 (20 * p + j) = -1)) → rh2 wh YX30_putInOrder 5 25 [(0, 2, x), (1, 0, 0)] [] M1 wm YX32_orderBlocks 2 9 [(0, 2, 0), (1, 0, p), (2, 0, n), (3, 0, i)] [] M2 (fun r M1 r2 M2 => frx (fun c _ => c = x + 5 ∨ c = x + 7 ∨ c = x + 8) Mh M1 ∧ frx (fun c j => (c = 31 ∧ 20 * p ≤ j ∧ j < 20 * p + 20) ∨ c = 47) Mm M2 ∧ Ordd M1 M2 x p n) := by
          intro vq
          induction vq using Nat.strongRecOn with
          | ind vq ih2 =>
            intro i M2 hvq i0 i1 f2 h2
            refine rh2.r (rX32_orderBlocks_9 hm _ _ _ _ ?_)
            refine ⟨fun c => ⟨⟨by omega, by omega⟩, ⟨by omega, by omega⟩, ih2 _ (by omega) (i + 1) _ rfl (by omega) (by omega) (f2.st (by omega)) (fun j j0 j1 => ?_)⟩, fun c => ?_⟩
            · rw [rh_sets, if_pos rfl]
              split
              · rfl
              · exact h2 j j0 (by omega)
            · -- the main loop
              have main : ∀ (vq : Nat) (k : Int) (M1 M2 : rhM), (n - k).toNat = vq → 0 ≤ k → k ≤ n → frx (fun c _ => c = x + 5 ∨ c = x + 7 ∨ c = x + 8) Mh M1 → frx (fun c j => (c = 31 ∧ 20 * p ≤ j ∧ j < 20 * p + 20) ∨ c = 47) Mm M2 → nct (M1 (x + 8)) 0 n.toNat = n - k → Hid (∀ i, 0 ≤ i → i < n → (M1 (x + 8) i = 0 ↔ M2 31 (20 * p + i) = -1) ∧ (M1 (x + 8) i ≠ 0 → M1 (x + 5) i = M2 31 (20 * p + i) ∧ 0 ≤ M2 31 (20 * p + i) ∧ M2 31 (20 * p + i) < k ∧ M2 47 (M2 31 (20 * p + i)) = i)) → Hid (∀ t, 0 ≤ t → t < k → M1 (x + 7) t = M2 47 t ∧ 0 ≤ M2 47 t ∧ M2 47 t < n ∧ M2 31 (20 * p + M2 47 t) = t) → rh2 wh YX30_putInOrder 5 25 [(0, 2, x), (1, 0, k)] [] M1 wm YX32_orderBlocks 2 34 [(0, 2, 0), (1, 0, p), (2, 0, n), (3, 0, k)] [] M2 (fun r M1 r2 M2 => frx (fun c _ => c = x + 5 ∨ c = x + 7 ∨ c = x + 8) Mh M1 ∧ frx (fun c j => (c = 31 ∧ 20 * p ≤ j ∧ j < 20 * p + 20) ∨ c = 47) Mm M2 ∧ Ordd M1 M2 x p n) := by
                intro vq
                induction vq using Nat.strongRecOn with
                | ind vq ih =>
                  intro k M1 M2 hvq k0 k1 f1 f2 hc hA hO
                  have nh : M1 x 1 = n := by rw [f1 x 1 (by omega), hNh]
                  have nm : M2 24 p = n := by rw [f2 24 p (by omega), hN]
                  have bh : BxH M1 x n L T R B := fun i i0 i1 => by
                    rw [f1 (x + 1) i (by omega), f1 (x + 2) i (by omega), f1 (x + 3) i (by omega), f1 (x + 4) i (by omega)]; exact hBh i i0 i1
                  have bm : BxN M2 p n L T R B := fun i i0 i1 => by
                    rw [f2 27 _ (by omega), f2 28 _ (by omega), f2 29 _ (by omega), f2 30 _ (by omega)]; exact hB i i0 i1
                  refine rh2.l (rX30_putInOrder_25 hh _ _ _ hx ?_)
                  rw [nh]
                  refine ⟨fun c => ?_, fun c => ?_⟩
                  · -- the next
                    have eD : ∀ i : Int, 0 ≤ i → i < n → ((M1 (x + 8) i = 0) ↔ (M2 31 (20 * p + i) = -1)) := fun i i0 i1 => (hA.out i i0 i1).1
                    have eF : ∀ i : Int, (fre L T R B n (fun i => M1 (x + 8) i = 0) i ↔ fre L T R B n (fun i => M2 31 (20 * p + i) = -1) i) := fun i => ⟨fun z s s0 s1 s2 s3 => z s s0 s1 s2 ((eD s s0 s1).mpr s3), fun z s s0 s1 s2 s3 => z s s0 s1 s2 ((eD s s0 s1).mp s3)⟩
                    have e1 : nxt (fun i => M1 (x + 8) i = 0 ∧ ((1 : Int) = 0 ∨ fre L T R B n (fun i => M1 (x + 8) i = 0) i)) T L n.toNat = nxt (fun i => M2 31 (20 * p + i) = -1 ∧ fre L T R B n (fun i => M2 31 (20 * p + i) = -1) i) T L n.toNat :=
                      nxt_cg _ (fun i i0 i1 => ⟨fun z => ⟨(eD i i0 (by omega)).mp z.1, by rcases z.2 with z | z; exact absurd z (by decide); exact (eF i).mp z⟩, fun z => ⟨(eD i i0 (by omega)).mpr z.1, .inr ((eF i).mpr z.2)⟩⟩) (fun _ _ _ _ => ⟨rfl, rfl⟩)
                    have e0 : nxt (fun i => M1 (x + 8) i = 0 ∧ ((0 : Int) = 0 ∨ fre L T R B n (fun i => M1 (x + 8) i = 0) i)) T L n.toNat = nxt (fun i => M2 31 (20 * p + i) = -1) T L n.toNat :=
                      nxt_cg _ (fun i i0 i1 => ⟨fun z => (eD i i0 (by omega)).mp z.1, fun z => ⟨(eD i i0 (by omega)).mpr z, .inl rfl⟩⟩) (fun _ _ _ _ => ⟨rfl, rfl⟩)
                    have en : 0 ≤ nxt (fun i => M2 31 (20 * p + i) = -1) T L n.toNat := by
                      rcases nxt_b (al := fun i => M2 31 (20 * p + i) = -1) (T := T) (L := L) n.toNat with q | q
                      · have q2 := nxt_no _ q
                        have := nct_0 (f := M1 (x + 8)) (c := 0) n.toNat (fun j j0 j1 z => q2 j j0 j1 ((eD j j0 (by omega)).mp z))
                        omega
                      · exact q.1
                    have hv : 0 ≤ nxo L T R B n (fun i => M2 31 (20 * p + i) = -1) ∧ nxo L T R B n (fun i => M2 31 (20 * p + i) = -1) < n ∧ M2 31 (20 * p + nxo L T R B n (fun i => M2 31 (20 * p + i) = -1)) = -1 := by
                      unfold nxo
                      by_cases q : nxt (fun i => M2 31 (20 * p + i) = -1 ∧ fre L T R B n (fun i => M2 31 (20 * p + i) = -1) i) T L n.toNat = -1
                      · rw [if_pos q]
                        rcases nxt_b (al := fun i => M2 31 (20 * p + i) = -1) (T := T) (L := L) n.toNat with r | r
                        · omega
                        · exact ⟨r.1, (by omega), r.2.2⟩
                      · rw [if_neg q]
                        rcases nxt_b (al := fun i => M2 31 (20 * p + i) = -1 ∧ fre L T R B n (fun i => M2 31 (20 * p + i) = -1) i) (T := T) (L := L) n.toNat with r | r
                        · exact absurd r q
                        · exact ⟨r.1, Int.lt_of_lt_of_le r.2.1 (show ((n.toNat : Nat) : Int) ≤ n by omega), r.2.2.1⟩
                    have hnx : nxo L T R B n (fun i => M2 31 (20 * p + i) = -1) = if nxt (fun i => M2 31 (20 * p + i) = -1 ∧ fre L T R B n (fun i => M2 31 (20 * p + i) = -1) i) T L n.toNat = -1 then nxt (fun i => M2 31 (20 * p + i) = -1) T L n.toNat else nxt (fun i => M2 31 (20 * p + i) = -1 ∧ fre L T R B n (fun i => M2 31 (20 * p + i) = -1) i) T L n.toNat := rfl
                    have st := m_place hm hp M2 nm hn0 hn bm hb ⟨k0, c⟩ hv.1 hv.2.1
                    have C1 := c_nextBlock hh (fr := 1) hx M1 nh hn0 hn bh hb
                    have C0 := c_nextBlock hh (fr := 0) hx M1 nh hn0 hn bh hb
                    rw [e1] at C1
                    rw [e0] at C0
                    generalize nxo L T R B n (fun i => M2 31 (20 * p + i) = -1) = v at st hv hnx
                    generalize nxt (fun i => M2 31 (20 * p + i) = -1 ∧ fre L T R B n (fun i => M2 31 (20 * p + i) = -1) i) T L n.toNat = v1 at C1 hnx
                    generalize nxt (fun i => M2 31 (20 * p + i) = -1) T L n.toNat = v0 at C0 hnx en
                    have go : rh2 wh YX30_putInOrder 5 25 [(0, 2, x), (1, 0, k + 1)] [] (rh_set (rh_set (rh_set M1 (x + 8) v 1) (x + 7) k v) (x + 5) v k) wm YX32_orderBlocks 2 34 [(0, 2, 0), (1, 0, p), (2, 0, n), (3, 0, k)] [] M2 (fun r M1 r2 M2 => frx (fun c _ => c = x + 5 ∨ c = x + 7 ∨ c = x + 8) Mh M1 ∧ frx (fun c j => (c = 31 ∧ 20 * p ≤ j ∧ j < 20 * p + 20) ∨ c = 47) Mm M2 ∧ Ordd M1 M2 x p n) := by
                      refine rh2.sr st ?_
                      have hv0 : M1 (x + 8) v = 0 := (eD v hv.1 hv.2.1).mpr hv.2.2
                      clear eD eF e1 e0 st C1 C0
                      refine ih _ (by omega) (k + 1) _ _ rfl (by omega) (by omega) (((f1.st (by omega)).st (by omega)).st (by omega)) ((f2.st (by omega)).st (by omega)) ?_ (fun i i0 i1 => ?_) (fun t t0 t1 => ?_)
                      · rw [rh_set_n (by omega), rh_set_n (by omega), rh_set_f, nct_dn hv.1 hv0 (by omega) _ (by omega), hc]; omega
                      · have hi := hA.out i i0 i1
                        rw [rh_set_a (by omega), rh_set_a (by omega), rh_set_a (show (31 : Int) ≠ 47 by decide)]
                        by_cases e : i = v
                        · rw [e, rh_set_s, rh_set_s, rh_set_s, rh_set_s]
                          exact ⟨⟨fun z => absurd z (by decide), fun z => by omega⟩, fun _ => ⟨rfl, k0, (by omega), rfl⟩⟩
                        · rw [rh_set_j e, rh_set_j (show 20 * p + i ≠ 20 * p + v by omega), rh_set_j e, rh_set_a (by omega), rh_set_a (by omega)]
                          refine ⟨hi.1, fun z => ?_⟩
                          obtain ⟨z1, z2, z3, z4⟩ := hi.2 z
                          refine ⟨z1, z2, (by omega), ?_⟩
                          rw [rh_set_j (by omega), rh_set_a (by omega), z4]
                      · rw [rh_set_a (show x + 7 ≠ x + 5 by omega)]
                        by_cases e : t = k
                        · rw [e, rh_set_s, rh_set_s, rh_set_a (show (31 : Int) ≠ 47 by decide), rh_set_s]
                          exact ⟨rfl, hv.1, hv.2.1, rfl⟩
                        · have ho := hO.out t t0 (by omega)
                          rw [rh_set_j e, rh_set_j e, rh_set_a (by omega), rh_set_a (show (47 : Int) ≠ 31 by decide), rh_set_a (show (31 : Int) ≠ 47 by decide), rh_set_j (fun z => ?_)]
                          · exact ho
                          · have q := ho.2.2.2
                            rw [z, hv.2.2] at q
                            omega
                    refine rh2.sl (vX30_putInOrder_35 hx C1 (LE0 rfl)) ?_
                    refine rh2.l (rX30_putInOrder_38 hh _ _ _ _ hx ?_)
                    refine ⟨fun q => ?_, fun q => ?_⟩
                    · refine rh2.sl (vX30_putInOrder_46 hx C0 (LE0 rfl)) ?_
                      refine rh2.l (rX30_putInOrder_49 hh _ _ _ _ hx ?_)
                      rw [if_pos q] at hnx
                      rw [← hnx]
                      exact ⟨⟨by omega, by omega⟩, ⟨by omega, by omega⟩, ⟨by omega, by omega⟩, ⟨by omega, by omega⟩, go⟩
                    · rw [if_neg q] at hnx
                      rw [← hnx]
                      exact ⟨⟨by omega, by omega⟩, ⟨by omega, by omega⟩, ⟨by omega, by omega⟩, ⟨by omega, by omega⟩, go⟩
                  · refine rh1.of (rX32_orderBlocks_34 hm _ _ _ _ ?_)
                    have ek : k = n := (by omega)
                    refine ⟨fun c => by omega, fun _ => ⟨f1, f2, fun i i0 i1 => ?_, fun t t0 t1 => hO.out t t0 (by omega)⟩⟩
                    have hz := nct_z (f := M1 (x + 8)) (c := 0) (t := n.toNat) (by rw [hc]; omega) i i0 (by omega)
                    have := (hA.out i i0 i1).2 hz
                    rw [← ek]; exact this
              refine main _ 0 M1 M2 rfl (by omega) hn0 f1 f2 ?_ (fun i i0 i1 => ?_) (fun t t0 t1 => by omega)
              · rw [nct_cg (g := fun _ => 0) _ (fun j j0 j1 => by rw [h1 j j0 (by omega)]), nct_all n.toNat]; omega
              · rw [h1 i i0 (by omega), h2 i i0 (by omega)]
                exact ⟨⟨fun _ => rfl, fun _ => rfl⟩, fun z => absurd rfl z⟩
        exact key2 _ 0 Mm rfl (by omega) hn0 frx.rf (fun j j0 j1 => by omega)
  exact key _ 0 Mh rfl (by omega) hn0 frx.rf (fun j j0 j1 => by omega)
end OrderO
