/-! ===== LAYER 2: op machine, op words ===== -/
section Machine
variable {wh wm : rhW}
theorem Jn.cg {hg C : Int → Int} {N : Nat} {par sg en : Int → Int} {F F' : Int → Prop} (J : Jn hg C N par sg en F) (e : ∀ x : Int, 0 ≤ x → x < N → (F x ↔ F' x)) : Jn hg C N par sg en F' :=
  ⟨J.1, fun x x0 x1 h => J.2.1 x x0 x1 (fun z => h ((e x x0 x1).mp z)), fun x x0 x1 h => J.2.2.1 x x0 x1 ((e x x0 x1).mpr h), fun x y x0 x1 y0 y1 hx hy => J.2.2.2 x y x0 x1 y0 y1 ((e x x0 x1).mpr hx) ((e y y0 y1).mpr hy)⟩
theorem m_join (hm : rh_ms wm) {N : Nat} {par sg en dp hg : Int → Int} (hN : N ≤ 1801) (T : Tri N par sg) (B0 : rhM) (G : MTr B0 N par sg en dp) (eh : ∀ x : Int, 0 ≤ x → x < N → B0 95 x = hg x) (h1 : ∀ x : Int, 1 ≤ x → x < N → hg x + 1 ≤ hg (par x)) (h2 : ∀ a : Int, 0 ≤ a → a < N → hg a = 0 ∨ ∃ x : Int, 1 ≤ x ∧ x < N ∧ par x = a ∧ hg a = hg x + 1) (h3 : ∀ a : Int, 0 ≤ a → a < N → 0 ≤ hg a) : ∀ (u : Nat) (h : Int) (B : rhM), h + u = 13 → 0 ≤ h → frx (fun c _ => c = 94) B0 B → Jn hg (B 94) N par sg en (fun x => hg x < h) → ∃ B', (∀ P : Int → rhM → Prop, P 0 B' → rh1 wm YX32_joinBeginnings 2 104 [(0, 2, 0), (1, 0, h)] [] B P) ∧ Jn hg (B' 94) N par sg en (fun x => hg x < 13) ∧ frx (fun c _ => c = 94) B0 B' := by
  have n1 := T.1
  intro u
  induction u with
  | zero =>
    intro h B hu h0 f J
    have e : h = 13 := (by omega)
    rw [e] at J ⊢
    refine ⟨B, fun P HP => ?_, J, f⟩
    refine rh1.of (rX32_joinBeginnings_104 hm _ _ ?_)
    exact ⟨fun z => by omega, fun _ => HP⟩
  | succ u ih =>
    intro h B hu h0 f J
    have mid : ∀ (m : Nat) (k : Int) (B : rhM), k + m = N → 0 ≤ k → frx (fun c _ => c = 94) B0 B → Jn hg (B 94) N par sg en (fun x => hg x < h ∨ (hg x = h ∧ x < k)) → ∃ B', (∀ P : Int → rhM → Prop, P 0 B' → rh1 wm YX32_joinBeginnings 2 112 [(0, 2, 0), (1, 0, h), (2, 0, k)] [] B P) ∧ Jn hg (B' 94) N par sg en (fun x => hg x < 13) ∧ frx (fun c _ => c = 94) B0 B' := by
      intro m
      induction m with
      | zero =>
        intro k B hk k0 f J
        obtain ⟨B', E, r⟩ := ih (h + 1) B (by omega) (by omega) f (J.cg (fun x x0 x1 => ⟨fun z => by rcases z with z | z <;> omega, fun z => by
          by_cases e : hg x = h
          · exact .inr ⟨e, (by omega)⟩
          · exact .inl (by omega)⟩))
        refine ⟨B', fun P HP => ?_, r⟩
        refine rh1.of (rX32_joinBeginnings_112 hm _ _ _ ?_)
        rw [f 0 128 (by omega), G.1]
        exact ⟨fun z => by omega, fun _ => ⟨⟨by omega, by omega⟩, E P HP⟩⟩
      | succ m ihm =>
        intro k B hk k0 f J
        have kN : 0 ≤ k ∧ k < N := ⟨by omega, by omega⟩
        have G1 := G.fx (f.w (fun c j h => .inl h))
        have ek : ∀ x : Int, 0 ≤ x → x < N → B 95 x = hg x := fun x x0 x1 => by rw [f 95 x (by omega)]; exact eh x x0 x1
        have fin : ∀ B1 : rhM, frx (fun c _ => c = 94) B0 B1 → Jn hg (B1 94) N par sg en (fun x => hg x < h ∨ (hg x = h ∧ x < k + 1)) → eS wm YX32_joinBeginnings 2 122 [(0, 2, 0), (1, 0, h), (2, 0, k), (3, 0, 0)] [] B 112 [(0, 2, 0), (1, 0, h), (2, 0, k + 1)] [] B1 → ∃ B', (∀ P : Int → rhM → Prop, P 0 B' → rh1 wm YX32_joinBeginnings 2 112 [(0, 2, 0), (1, 0, h), (2, 0, k)] [] B P) ∧ Jn hg (B' 94) N par sg en (fun x => hg x < 13) ∧ frx (fun c _ => c = 94) B0 B' := by
          intro B1 f1 J1 E1
          obtain ⟨B', E, r⟩ := ihm (k + 1) B1 (by omega) (by omega) f1 J1
          refine ⟨B', fun P HP => ?_, r⟩
          refine rh1.of (rX32_joinBeginnings_112 hm _ _ _ ?_)
          rw [f 0 128 (by omega), G.1]
          exact ⟨fun _ => rh1.s E1 (E P HP), fun z => by omega⟩
        by_cases q : hg k = h
        · have Ck : B 94 k = k := J.2.1 k kN.1 kN.2 (fun z => by rcases z with z | z <;> omega)
          have inn : ∀ (v : Nat) (j : Int), j + v = k → 0 ≤ j → (∀ i : Int, 0 ≤ i → i < j → hg i = h → B 94 i = i → ¬ Alk N par sg en (B 94) i k) → ∃ B1, frx (fun c _ => c = 94) B0 B1 ∧ Jn hg (B1 94) N par sg en (fun x => hg x < h ∨ (hg x = h ∧ x < k + 1)) ∧ eS wm YX32_joinBeginnings 2 122 [(0, 2, 0), (1, 0, h), (2, 0, k), (3, 0, j)] [] B 112 [(0, 2, 0), (1, 0, h), (2, 0, k + 1)] [] B1 := by
            intro v
            induction v with
            | zero =>
              intro j hj j0 no
              refine ⟨B, f, J.nx (c := k) T h1 h2 h3 kN q (fun x => ?_) (.inl ⟨rfl, fun i i0 i1 => no i i0 (by omega)⟩), eS.of (fun P HP => ?_)⟩
              · by_cases e : x = k
                · rw [if_pos e, e]; exact Ck
                · rw [if_neg e]
              · refine rh1.of (rX32_joinBeginnings_122 hm _ _ _ _ ?_)
                exact ⟨fun _ => ⟨by omega, by omega⟩, fun z => by omega, fun _ => ⟨⟨by omega, by omega⟩, HP⟩⟩
            | succ v ihv =>
              intro j hj j0 no
              by_cases qj : hg j = h ∧ B 94 j = j
              · have K := c_sameRests hm (a := j) (b := k) B T G1 hN ⟨by omega, by omega⟩ kN (fun x x0 x1 => J.1 x (by omega) x1)
                by_cases al : Alk N par sg en (B 94) j k
                · rw [rh_if_t al] at K
                  refine ⟨rh_set B 94 k j, f.st rfl, J.nx (c := j) T h1 h2 h3 kN q (fun x => by rw [rh_set_f]; rfl) (.inr ⟨⟨by omega, by omega⟩, qj.1, qj.2, al⟩), eS.of (fun P HP => ?_)⟩
                  refine rh1.of (rX32_joinBeginnings_122 hm _ _ _ _ ?_)
                  rw [ek k kN.1 kN.2, ek j (by omega) (by omega)]
                  refine ⟨fun _ => ⟨by omega, by omega⟩, fun _ => ⟨⟨by omega, by omega⟩, fun _ => ⟨by omega, by omega⟩, fun _ => ?_, fun z => absurd qj z⟩, fun z => absurd (show j < k ∧ hg k = h from ⟨(by omega), q⟩) z⟩
                  refine rh1.s (vX32_joinBeginnings_160 hm K (LE0 rfl)) ?_
                  refine rh1.of (rX32_joinBeginnings_163 hm _ _ _ _ _ ?_)
                  exact ⟨fun _ => ⟨⟨by omega, by omega⟩, ⟨by omega, by omega⟩, HP⟩, fun z => absurd (show (1 : Int) ≠ 0 by decide) z⟩
                · rw [rh_if_f al] at K
                  obtain ⟨B1, f1, J1, E1⟩ := ihv (j + 1) (by omega) (by omega) (fun i i0 i1 hi ci => by
                    by_cases e : i = j
                    · rw [e]; exact al
                    · exact no i i0 (by omega) hi ci)
                  refine ⟨B1, f1, J1, eS.of (fun P HP => ?_)⟩
                  refine rh1.of (rX32_joinBeginnings_122 hm _ _ _ _ ?_)
                  rw [ek k kN.1 kN.2, ek j (by omega) (by omega)]
                  refine ⟨fun _ => ⟨by omega, by omega⟩, fun _ => ⟨⟨by omega, by omega⟩, fun _ => ⟨by omega, by omega⟩, fun _ => ?_, fun z => absurd qj z⟩, fun z => absurd (show j < k ∧ hg k = h from ⟨(by omega), q⟩) z⟩
                  refine rh1.s (vX32_joinBeginnings_160 hm K (LE0 rfl)) ?_
                  refine rh1.of (rX32_joinBeginnings_163 hm _ _ _ _ _ ?_)
                  exact ⟨fun z => absurd rfl z, fun _ => ⟨⟨by omega, by omega⟩, rh1.s E1 HP⟩⟩
              · obtain ⟨B1, f1, J1, E1⟩ := ihv (j + 1) (by omega) (by omega) (fun i i0 i1 hi ci => by
                  by_cases e : i = j
                  · rw [e] at hi ci; exact absurd ⟨hi, ci⟩ qj
                  · exact no i i0 (by omega) hi ci)
                refine ⟨B1, f1, J1, eS.of (fun P HP => ?_)⟩
                refine rh1.of (rX32_joinBeginnings_122 hm _ _ _ _ ?_)
                rw [ek k kN.1 kN.2, ek j (by omega) (by omega)]
                exact ⟨fun _ => ⟨by omega, by omega⟩, fun _ => ⟨⟨by omega, by omega⟩, fun _ => ⟨by omega, by omega⟩, fun z => absurd z qj, fun _ => ⟨⟨by omega, by omega⟩, rh1.s E1 HP⟩⟩, fun z => absurd (show j < k ∧ hg k = h from ⟨(by omega), q⟩) z⟩
          obtain ⟨B1, f1, J1, E1⟩ := inn k.toNat 0 (by omega) (by omega) (fun i i0 i1 => by omega)
          exact fin B1 f1 J1 E1
        · refine fin B f (J.cg (fun x x0 x1 => ⟨fun z => by
            rcases z with z | z
            · exact .inl z
            · exact .inr ⟨z.1, (by omega)⟩, fun z => by
            rcases z with z | z
            · exact .inl z
            · refine .inr ⟨z.1, ?_⟩
              have : x ≠ k := fun e => q (by rw [← e]; exact z.1)
              omega⟩)) (eS.of (fun P HP => ?_))
          refine rh1.of (rX32_joinBeginnings_122 hm _ _ _ _ ?_)
          rw [ek k kN.1 kN.2]
          exact ⟨fun _ => ⟨by omega, by omega⟩, fun z => absurd z.2 q, fun _ => ⟨⟨by omega, by omega⟩, HP⟩⟩
    obtain ⟨B', E, r⟩ := mid N 0 B (by omega) (by omega) f (J.cg (fun x x0 x1 => ⟨.inl, fun z => by rcases z with z | z <;> omega⟩))
    refine ⟨B', fun P HP => ?_, r⟩
    refine rh1.of (rX32_joinBeginnings_104 hm _ _ ?_)
    exact ⟨fun _ => E P HP, fun z => by omega⟩
theorem c_join (hm : rh_ms wm) {N : Nat} {par sg en dp : Int → Int} (hN : N ≤ 1801) (B : rhM) (T : Tri N par sg) (G : MTr B N par sg en dp) (D : DpT N par dp) : ∃ B', eC wm YX32_joinBeginnings 2 [(2, 0)] B 0 B' ∧ frx (fun c _ => c = 94 ∨ c = 95) B B' ∧ (∀ x : Int, 0 ≤ x → x < N → 0 ≤ B' 94 x) ∧ (∀ x y : Int, 0 ≤ x → x < N → 0 ≤ y → y < N → (B' 94 x = B' 94 y ↔ Alk N par sg en (B' 94) x y)) ∧ ∀ x : Int, 0 ≤ x → x < N → (mnr (B' 94) x ↔ B' 94 x = x) := by
  have n1 := T.1
  have dpn : ∀ (v : Nat) (a : Int), a = v → a < N → 0 ≤ dp a := by
    intro v
    induction v using Nat.strongRecOn with
    | ind v ih =>
      intro a ha a1
      by_cases e : a = 0
      · rw [e, D.1]; exact Int.le_refl _
      · have t := (T.2.1 a (by omega) a1).1
        have := ih (par a).toNat (by omega) (par a) (by omega) (by omega)
        rw [(D.2 a (by omega) a1).1]
        omega
  have dp12 : ∀ a : Int, 0 ≤ a → a < N → dp a ≤ 12 := fun a a0 a1 => by
    by_cases e : a = 0
    · rw [e, D.1]; decide
    · exact (D.2 a (by omega) a1).2
  have ini : ∀ (m : Nat) (k : Int) (A : rhM), k + m = N → 0 ≤ k → frx (fun c _ => c = 94 ∨ c = 95) B A → (∀ x, 0 ≤ x → x < k → A 95 x = 0 ∧ A 94 x = x) → ∃ B1, eS wm YX32_joinBeginnings 2 2 [(0, 2, 0), (1, 0, k)] [] A 33 [(0, 2, 0), (1, 0, 12)] [] B1 ∧ frx (fun c _ => c = 94 ∨ c = 95) B B1 ∧ ∀ x : Int, 0 ≤ x → x < N → B1 95 x = 0 ∧ B1 94 x = x := by
    intro m
    induction m with
    | zero =>
      intro k A hk k0 f h
      refine ⟨A, eS.of (fun P HP => ?_), f, fun x x0 x1 => h x x0 (by omega)⟩
      refine rh1.of (rX32_joinBeginnings_2 hm _ _ ?_)
      rw [f 0 128 (by omega), G.1]
      exact ⟨fun z => by omega, fun _ => HP⟩
    | succ m ih =>
      intro k A hk k0 f h
      obtain ⟨B1, E, r⟩ := ih (k + 1) (rh_set (rh_set A 95 k 0) 94 k k) (by omega) (by omega) ((f.st (by omega)).st (by omega)) (fun x x0 x1 => by
        by_cases e : x = k
        · rw [e, rh_set_a (by decide), rh_set_s, rh_set_s]; exact ⟨rfl, rfl⟩
        · rw [rh_set_a (by decide), rh_set_j e, rh_set_j e, rh_set_a (by decide)]; exact h x x0 (by omega))
      refine ⟨B1, eS.of (fun P HP => ?_), r⟩
      refine rh1.of (rX32_joinBeginnings_2 hm _ _ ?_)
      rw [f 0 128 (by omega), G.1]
      exact ⟨fun _ => ⟨⟨by omega, by omega⟩, ⟨by omega, by omega⟩, ⟨by omega, by omega⟩, rh1.s E HP⟩, fun z => by omega⟩
  obtain ⟨B1, E1, f1, v1⟩ := ini N 0 B (by omega) (by omega) frx.rf (fun x x0 x1 => by omega)
  have G1 := G.fx f1
  obtain ⟨B2, E2, H2, f2⟩ := m_high hm (sg := sg) (en := en) hN T D (fun a a0 a1 => dpn a.toNat a (by omega) a1) 12 12 B1 rfl (Int.le_refl _) G1 ⟨fun x x0 x1 hx => by have := dp12 x (by omega) x1; have : (12 : Int) < dp x := hx; omega, fun a a0 a1 => .inl (v1 a a0 a1).1, fun a a0 a1 => by have := dp12 a a0 a1; have := (v1 a a0 a1).1; exact ⟨by omega, by omega⟩⟩
  have G2 := G1.fx (f2.w (fun c j h => .inr h))
  have e94 : ∀ x : Int, 0 ≤ x → x < N → B2 94 x = x := fun x x0 x1 => by rw [f2 94 x (by omega)]; exact (v1 x x0 x1).2
  obtain ⟨B3, E3, J3, f3⟩ := m_join hm (hg := B2 95) hN T B2 G2 (fun x _ _ => rfl) (fun x x0 x1 => H2.1 x x0 x1 trivial) (fun a a0 a1 => by
    rcases H2.2.1 a a0 a1 with z | ⟨x, x0, x1, -, x3⟩
    · exact .inl z
    · exact .inr ⟨x, x0, x1, x3⟩) (fun a a0 a1 => (H2.2.2 a a0 a1).1) 13 0 B2 (by omega) (by omega) frx.rf ⟨fun x x0 x1 => by rw [e94 x x0 x1]; exact x0, fun x x0 x1 _ => e94 x x0 x1, fun x x0 x1 hx => by have := (H2.2.2 x x0 x1).1; have : B2 95 x < 0 := hx; omega, fun x y x0 x1 y0 y1 hx => by have := (H2.2.2 x x0 x1).1; have : B2 95 x < 0 := hx; omega⟩
  have F : ∀ x : Int, 0 ≤ x → x < N → B2 95 x < 13 := fun x x0 x1 => by
    have := (H2.2.2 x x0 x1).2
    have := dpn x.toNat x (by omega) x1
    omega
  refine ⟨B3, eC.of1 (rC1.of (by decide) (LE0 rfl) ?_), (f1.tr (f2.w (fun c j h => .inr h))).tr (f3.w (fun c j h => .inl h)), J3.1, fun x y x0 x1 y0 y1 => J3.2.2.2 x y x0 x1 y0 y1 (F x x0 x1) (F y y0 y1), fun x x0 x1 => ?_⟩
  · refine rh1.of (rX32_joinBeginnings_0 hm _ ?_)
    exact rh1.s E1 (rh1.s E2 (E3 _ ⟨rfl, rfl⟩))
  · obtain ⟨u1, u2, u3⟩ := J3.2.2.1 x x0 x1 (F x x0 x1)
    have p := J3.1 x x0 x1
    constructor
    · intro h
      by_cases e : B3 94 x = x
      · exact e
      · exact absurd u2 (h (B3 94 x) p (by omega))
    · intro h y y0 y1 c
      have := (J3.2.2.1 y y0 (by omega) (F y y0 (by omega))).1
      omega
theorem op_machine (hh : rh_hs wh) (hm : rh_ms wm) {Mh Mm : rhM} (W : Rwl Mh Mm) (x1 : Int) : rC2 wh YX1_machine 3 [(2, 0), (0, x1)] Mh wm YX32_machine 3 [(2, 0), (0, x1)] Mm (fun r M' r2 M2' => r = r2 ∧ frx Fbd Mh M' ∧ frx (fun c j => (c = 0 ∧ j = 0) ∨ Gbd c j) Mm M2') := by
  refine rC2.of (by decide) (LE0 rfl) (by decide) (LE0 rfl) ?_
  refine rh2.l (rX1_machine_0 hh _ _ ?_)
  refine ⟨fun c => ?_, fun c => ?_⟩
  · refine rh1.of (rX32_machine_0 hm _ _ ?_)
    exact ⟨fun _ => ⟨rfl, frx.rf, frx.rf.st (.inl (by omega))⟩, fun z => absurd c z⟩
  have W' : Rwl Mh (rh_set Mm 0 0 0) := by
    obtain ⟨w1, w2, w3⟩ := W
    have e : rh_set Mm 0 0 0 0 120 = Mm 0 120 := rh_set_j (by decide)
    refine ⟨by rw [e]; exact w1, by rw [e]; exact w2, fun w w0 w1' => ?_⟩
    rw [e] at w1'
    obtain ⟨y1, y2, y3⟩ := w3 w w0 w1'
    rw [rh_set_a (by decide)]
    refine ⟨y1, y2, fun k k0 k1 => ?_⟩
    rw [rh_set_a (by decide)]
    exact y3 k k0 k1
  obtain ⟨N, par, sg, en, dp, C, A, B, KA, KB, T, G, D, hN, pC, hC, st, ar, fA, fB⟩ := t_build hh hm W'
  obtain ⟨B2, KB2, f2, pB, hB, mB⟩ := c_join hm hN B T G D
  have n1 := T.1
  have cu := cls_u T pC pB hC hB
  have mm : ∀ x : Int, 0 ≤ x → x < N → (mnr C x ↔ B2 94 x = x) := fun x x0 x1' => by
    rw [← mB x x0 x1']
    constructor
    · intro h y y0 y1 e; exact h y y0 y1 ((cu y x y0 (by omega) x0 x1').mpr e)
    · intro h y y0 y1 e; exact h y y0 y1 ((cu y x y0 (by omega) x0 x1').mp e)
  have est : A 63 10 = ctp (fun k => B2 94 k = k) N := by
    rw [st, rep_sum (C := C) (f := fun _ => 1) (N := N) (fun x y _ _ _ _ _ => rfl) N (Int.le_refl _), psm_1]
    exact ctp_cg N mm
  have ear : A 63 11 = ctp (fun k => 1 ≤ k ∧ B2 94 (par k) = par k) N := by
    rw [ar, rep_sum (C := C) (f := nch N par) (N := N) (fun x y x0 x1 y0 y1 e => alk_nch T (fun z z0 z1 => pC z (by omega) z1) ((hC x y x0 x1 y0 y1).mp e)) N (Int.le_refl _), ← arc_x (par := par) (Q := mnr C) (n := N) N (fun k k0 k1 => by have := (T.2.1 k k0 k1).1; exact ⟨by omega, by omega⟩)]
    refine ctp_cg N (fun k k0 k1 => ⟨fun z => ⟨z.1, (mm (par k) (T.2.1 k z.1 k1).1.1 (by have := (T.2.1 k z.1 k1).1; omega)).mp z.2⟩, fun z => ⟨z.1, (mm (par k) (T.2.1 k z.1 k1).1.1 (by have := (T.2.1 k z.1 k1).1; omega)).mpr z.2⟩⟩)
  have G2 := G.fx f2
  have cnt : ∀ (m k : Nat), k + m = N → rh1 wm YX32_machine 3 33 [(0, 2, 0), (1, 0, x1), (2, 0, ctp (fun k => B2 94 k = k) k), (3, 0, ctp (fun k => 1 ≤ k ∧ B2 94 (par k) = par k) k), (4, 0, (k : Int))] [] B2 (fun r M2' => rh_if (x1 = 0) (A 63 10) (A 63 11) = r ∧ M2' = B2) := by
    intro m
    induction m with
    | zero =>
      intro k hk
      have e : k = N := (by omega)
      rw [e]
      refine rh1.of (rX32_machine_33 hm _ _ _ _ _ ?_)
      rw [G2.1]
      exact ⟨fun z => by omega, fun _ => ⟨by rw [est, ear], rfl⟩⟩
    | succ m ih =>
      intro k hk
      have cb1 := ctp_b (fun k => B2 94 k = k) k
      have cb2 := ctp_b (fun k => 1 ≤ k ∧ B2 94 (par k) = par k) k
      have I := ih (k + 1) (by omega)
      have t : ∀ z : 0 < (k : Int), B2 90 k = par k ∧ (0 ≤ par k ∧ par k < k) := fun z => ⟨(G2.2.2 k (by omega) (by omega)).1, (T.2.1 k (by omega) (by omega)).1⟩
      have e1 : ctp (fun k => B2 94 k = k) (k + 1) = ctp (fun k => B2 94 k = k) k + rh_if (B2 94 k = k) 1 0 := by
        by_cases q : B2 94 k = k
        · rw [rh_if_t q]; exact ctp_t (P := fun k => B2 94 k = k) q
        · rw [rh_if_f q, Int.add_zero]; exact ctp_f (P := fun k => B2 94 k = k) q
      have e2 : ctp (fun k => 1 ≤ k ∧ B2 94 (par k) = par k) (k + 1) = ctp (fun k => 1 ≤ k ∧ B2 94 (par k) = par k) k + rh_if ((0 < (k : Int)) ∧ (B2 94 (B2 90 k) = B2 90 k)) 1 0 := by
        by_cases z : 0 < (k : Int)
        · rw [(t z).1]
          by_cases q : B2 94 (par k) = par k
          · rw [rh_if_t ⟨z, q⟩]; exact ctp_t (P := fun k => 1 ≤ k ∧ B2 94 (par k) = par k) ⟨(by omega), q⟩
          · rw [rh_if_f (fun y => q y.2), Int.add_zero]; exact ctp_f (P := fun k => 1 ≤ k ∧ B2 94 (par k) = par k) (fun y => q y.2)
        · rw [rh_if_f (fun y => z y.1), Int.add_zero]; exact ctp_f (P := fun k => 1 ≤ k ∧ B2 94 (par k) = par k) (fun y => z (by have := y.1; omega))
      have cb3 := ctp_b (fun k => B2 94 k = k) (k + 1)
      have cb4 := ctp_b (fun k => 1 ≤ k ∧ B2 94 (par k) = par k) (k + 1)
      rw [e1, e2] at I
      rw [e1] at cb3
      rw [e2] at cb4
      refine rh1.of (rX32_machine_33 hm _ _ _ _ _ ?_)
      rw [G2.1]
      refine ⟨fun _ => ⟨⟨by omega, by omega⟩, ?_⟩, fun z => by omega⟩
      intro a ha
      rw [← ha] at I cb3
      refine ⟨⟨by omega, by omega⟩, fun z => ⟨by omega, by omega⟩, fun z => by rw [(t z).1]; have := (t z).2; exact ⟨by omega, by omega⟩, fun z => ⟨by omega, by omega⟩, ?_⟩
      intro b hb
      rw [← hb] at I cb4
      exact ⟨⟨by omega, by omega⟩, ⟨by omega, by omega⟩, I⟩
  refine rh2.sl (vX1_machine_17 hh KA (LE0 rfl)) ?_
  refine rh2.l (rX1_machine_20 hh _ _ ?_)
  refine rh1.of (rX32_machine_0 hm _ _ ?_)
  refine ⟨fun z => absurd z c, fun _ => ?_⟩
  refine rh1.s (vX32_machine_19 hm KB (LE0 rfl)) ?_
  refine rh1.of (rX32_machine_22 hm _ _ ?_)
  refine rh1.s (vX32_machine_23 hm KB2 (LE0 rfl)) ?_
  refine rh1.of (rX32_machine_26 hm _ _ ?_)
  obtain ⟨r, M2, E, hr, hM⟩ := cnt N 0 (by omega)
  refine ⟨r, M2, E, hr, fA, ?_⟩
  rw [hM]
  exact ((frx.rf.st (.inl (by omega))).tr (fB.w (fun c j h => .inr h))).tr (f2.w (fun c j h => .inr (by unfold Gbd; omega)))
def Fws (c j : Int) : Prop := Ftp c j ∨ (c = 3 ∧ j = 6) ∨ Fwl c j ∨ Fbd c j
def Gws (c j : Int) : Prop := (c = 0 ∧ (j = 0 ∨ j = 2)) ∨ Gwl c j
theorem op_words (hh : rh_hs wh) (hm : rh_ms wm) {Mh Mm : rhM} (T : Rtp Mh Mm) (W : Rwl Mh Mm) : rC2 wh YX1_words 4 [(2, 0)] Mh wm YX32_words 2 [(2, 0)] Mm (fun r M' r2 M2' => r = r2 ∧ Rtp M' M2' ∧ Rwl M' M2' ∧ frx Fws Mh M' ∧ frx Gws Mm M2') := by
  refine rC2.of (by decide) (LE0 rfl) (by decide) (LE0 rfl) ?_
  obtain ⟨t1, t2, t3, t4⟩ := T
  obtain ⟨N, hN⟩ : ∃ N : Nat, Mm 0 2 = N := ⟨(Mm 0 2).toNat, (by omega)⟩
  rw [hN] at t1 t2 t3 t4
  have wb := W.2.1
  have e2 : rh_set Mm 0 0 0 0 2 = N := by rw [rh_set_j (by decide)]; exact hN
  have e120 : rh_set Mm 0 0 0 0 120 = Mm 0 120 := rh_set_j (by decide)
  have Wx : ∀ A B : rhM, A 63 1 = Mh 63 1 → A 65 = Mh 65 → A 66 = Mh 66 → B 0 120 = Mm 0 120 → B 88 = Mm 88 → B 89 = Mm 89 → Rwl A B := fun A B a1 a2 a3 b1 b2 b3 => by
    unfold Rwl
    rw [a1, a2, a3, b1, b2, b3]
    exact W
  rcases Flt.ex (v := Mm 1) N with ⟨q, F⟩ | ⟨ok, n0, hb⟩
  · obtain ⟨A, E, a6, fA⟩ := h_readT hh (v := Mm 1) (N := N) (by omega) Mh t1 (fun k k0 k1 => (t4 k k0 k1).1) F
    have q0 := F.1
    refine rh2.l (rX1_words_0 hh _ ?_)
    refine rh2.sl ((vcX1_words_8 hh E (LE0 rfl)).toS) ?_
    refine rh2.l (rX1_words_37 hh _ ?_)
    rw [a6]
    refine ⟨⟨by omega, by omega⟩, ?_⟩
    refine rh1.of (rX32_words_0 hm _ ?_)
    refine m_wordsT hm (v := Mm 1) (N := N) (by omega) (rh_set Mm 0 0 0) e2 (fun k k0 k1 => rh_set_a (by decide)) F _ ⟨rfl, Rtp.use (Mh := Mh) (Mm := Mm) (rh_set_s _ _ _ _) (rh_set_s _ _ _ _), Wx _ _ ?_ ?_ ?_ ?_ ?_ ?_, ?_, (frx.rf.st (by unfold Gws; omega)).st (by unfold Gws; omega)⟩
    · rw [rh_set_a (by decide), fA 63 1 (by omega)]
    · rw [rh_set_n (by decide), fA.cell (a := 65) (fun j => (by omega))]
    · rw [rh_set_n (by decide), fA.cell (a := 66) (fun j => (by omega))]
    · rw [rh_set_j (by decide), e120]
    · rw [rh_set_n (by decide), rh_set_n (by decide)]
    · rw [rh_set_n (by decide), rh_set_n (by decide)]
    · exact (fA.w (fun c j h => by unfold Fws Ftp; omega)).st (by unfold Fws Ftp; omega)
  · have EH := h_readS hh (v := Mm 1) (N := N) (by omega) Mh t1 (fun k k0 k1 => (t4 k k0 k1).1) ok n0 hb
    have EM := m_wordsE hm (v := Mm 1) (N := N) (by omega) (rh_set Mm 0 0 0) e2 (fun k k0 k1 => rh_set_a (by decide)) ok n0 hb
    obtain ⟨r, A, B, E1, E2, R, rr, fA, fB⟩ := w_loop hh hm (v := Mm 1) (N := N) (h0 := Mm 0 120) (by omega) (rh_set Mh 1 3 N) (rh_set Mm 0 0 0) (fun k k0 k1 => by rw [rh_set_a (by decide)]; exact t4 k k0 k1) e2 (fun k k0 k1 => rh_set_a (by decide)) ok N 0 (rh_set Mh 1 3 N) (rh_set Mm 0 0 0) (by omega) (Wx _ _ (rh_set_a (by decide)) (rh_set_n (by decide)) (rh_set_n (by decide)) e120 (rh_set_n (by decide)) (rh_set_n (by decide))) wb.1 (by rw [e120]; exact Int.le_refl _) frx.rf frx.rf
    have KR : eC wh YX18_read 3 [(2, 63), (2, 1)] Mh r A := eC.of1 (rC1.of (by decide) (LE0 rfl) (by
      rw [W.1] at EH
      refine rh1.s EH ?_
      exact E1 _ ⟨rfl, rfl⟩))
    obtain ⟨N', par, sg, en, dp, C, A2, B2, KA, -, -, -, -, -, -, -, -, -, fA2, -⟩ := t_build hh hm R
    have fAw : frx Fws Mh A := (frx.rf.st (by unfold Fws Ftp; omega)).tr (fA.w (fun c j h => .inr (.inr (.inl h))))
    have fBw : frx Gws Mm (rh_set B 0 2 0) := ((frx.rf.st (by unfold Gws; omega)).tr (fB.w (fun c j h => .inr h))).st (by unfold Gws; omega)
    have Rf : ∀ A' : rhM, A' 63 1 = A 63 1 → A' 65 = A 65 → A' 66 = A 66 → Rwl A' (rh_set B 0 2 0) := fun A' a1 a2 a3 => by
      unfold Rwl
      rw [a1, a2, a3, rh_set_j (by decide), rh_set_n (by decide), rh_set_n (by decide)]
      exact R
    have MM : ∀ P : Int → rhM → Prop, P r (rh_set B 0 2 0) → rh1 wm YX32_words 2 0 [(0, 2, 0)] [] Mm P := fun P HP => by
      refine rh1.of (rX32_words_0 hm _ ?_)
      rw [e120] at EM
      exact rh1.s EM (E2 P HP)
    refine rh2.l (rX1_words_0 hh _ ?_)
    refine rh2.sl (vX1_words_8 hh KR (LE0 rfl)) ?_
    refine rh2.l (rX1_words_11 hh _ _ ?_)
    refine ⟨fun _ => ?_, fun _ => ?_⟩
    · refine rh2.sl (vX1_words_22 hh KA (LE0 rfl)) ?_
      refine rh2.l (rX1_words_25 hh _ _ ?_)
      refine MM _ ⟨rfl, Rtp.use (Mh := Mh) (Mm := Mm) (rh_set_s _ _ _ _) (rh_set_s _ _ _ _), Rf _ ?_ ?_ ?_, ?_, fBw⟩
      · rw [rh_set_a (by decide), fA2 63 1 (by unfold Fbd; omega)]
      · rw [rh_set_n (by decide), fA2.cell (a := 65) (fun j => by unfold Fbd; omega)]
      · rw [rh_set_n (by decide), fA2.cell (a := 66) (fun j => by unfold Fbd; omega)]
      · exact (fAw.tr (fA2.w (fun c j h => .inr (.inr (.inr h))))).st (by unfold Fws Ftp; omega)
    · refine MM _ ⟨rfl, Rtp.use (Mh := Mh) (Mm := Mm) (rh_set_s _ _ _ _) (rh_set_s _ _ _ _), Rf _ ?_ ?_ ?_, fAw.st (by unfold Fws Ftp; omega), fBw⟩
      · rw [rh_set_a (by decide)]
      · rw [rh_set_n (by decide)]
      · rw [rh_set_n (by decide)]
end Machine
