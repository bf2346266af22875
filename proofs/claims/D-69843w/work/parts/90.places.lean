/-! ===== LAYER 2: where a word may be cut ===== -/
section Places
variable {wh wm : rhW}
theorem and01 {a b : Int} (ha : a = 0 ∨ a = 1) (hb : b = 0 ∨ b = 1) : (rh_and a b = 0 ∨ rh_and a b = 1) ∧ (rh_and a b ≠ 0 ↔ (a ≠ 0 ∧ b ≠ 0)) := by
  rcases ha with rfl | rfl <;> rcases hb with rfl | rfl <;> decide +kernel
def inn (c : Int → Int) (k : Int) : Prop := c k < c (k - 1) ∧ ∀ d, -2 ≤ d → d ≤ 2 → c k ≤ c (k + d)
theorem c_isInner (hh : rh_hs wh) {r k : Int} {c : Int → Int} (M : rhM) (hM : ∀ u, 0 ≤ u → u < 132 → M 26 u = c u) (hr : 0 ≤ r ∧ r < 64) (hk : 2 ≤ k ∧ k < 130) (h1 : 2 ≤ k - M 29 r) (h1' : 0 ≤ M 29 r) (h2 : 2 ≤ M 30 r - 1 - k) (h2' : M 30 r ≤ 200) :
    eC wh YX16_isInner 0 [(2, 25), (0, r), (0, k)] M (rh_if (inn c k) 1 0) M := by
  refine eC.of1 (rC1.of (by decide) (LE0 rfl) ?_)
  refine rh1.of (rX16_isInner_0 hh _ _ _ ?_)
  rw [hM k (by omega) (by omega), hM (k - 1) (by omega) (by omega)]
  refine ⟨⟨by omega, by omega⟩, ⟨by omega, by omega⟩, fun v ev => ⟨⟨by omega, by omega⟩, ?_⟩⟩
  have key : ∀ (vq : Nat) (d v : Int), (3 - d).toNat = vq → (-2 ≤ d) → (d ≤ 3) → ((v = 0 ∨ v = 1)) → ((v ≠ 0 ↔ (c k < c (k - 1) ∧ ∀ e, -2 ≤ e → e < d → c k ≤ c (k + e)))) → rh1 wh YX16_isInner 0 28 [(0, 2, 25), (1, 0, r), (2, 0, k), (3, 0, v), (4, 0, k + d)] [] M (fun r M' => r = rh_if (inn c k) 1 0 ∧ M' = M) := by
    intro vq
    induction vq using Nat.strongRecOn with
    | ind vq ih =>
      intro d v hvq d0 d1 hv hv2
      replace hv2 := Hid.mk hv2
      refine rh1.of (rX16_isInner_28 hh _ _ _ _ _ ?_)
      refine ⟨⟨by omega, by omega⟩, fun z => ?_, fun z => ⟨fun _ => hr, fun _ => ⟨by omega, by omega⟩, fun _ _ => hr, fun _ _ => ⟨by omega, by omega⟩, rh_if_cg ?_, rfl⟩⟩
      · rw [hM k (by omega) (by omega), hM (k + d) (by omega) (by omega)]
        refine ⟨⟨by omega, by omega⟩, ⟨by omega, by omega⟩, fun w ew => ⟨⟨by omega, by omega⟩, ?_⟩⟩
        have b01 : rh_if (c k ≤ c (k + d)) (1 : Int) 0 = 0 ∨ rh_if (c k ≤ c (k + d)) (1 : Int) 0 = 1 := by have := if1_b (P := c k ≤ c (k + d)); omega
        obtain ⟨q1, q2⟩ := and01 hv b01
        rw [← ew] at q1 q2
        rw [show k + d + 1 = k + (d + 1) by omega]
        refine ih _ (by omega) (d + 1) w rfl (by omega) (by omega) q1 ?_
        rw [q2, if1_ne, hv2.out]
        constructor
        · rintro ⟨⟨y1, y2⟩, y3⟩
          refine ⟨y1, fun e e0 e1 => ?_⟩
          by_cases y : e = d
          · rw [y]; exact y3
          · exact y2 e e0 (by omega)
        · rintro ⟨y1, y2⟩
          exact ⟨⟨y1, fun e e0 e1 => y2 e e0 (by omega)⟩, y2 d d0 (by omega)⟩
      · rw [hv2.out]
        constructor
        · rintro ⟨⟨y1, y2⟩, -⟩
          exact ⟨y1, fun e e0 e1 => y2 e e0 (by omega)⟩
        · rintro ⟨y1, y2⟩
          exact ⟨⟨y1, fun e e0 e1 => y2 e e0 (by omega)⟩, h1, h2⟩
  have h0 := key _ (-2) v rfl (by omega) (by omega) (by have := if1_b (P := c k < c (k - 1)); omega) (by rw [ev, if1_ne]; exact ⟨fun y => ⟨y, fun e e0 e1 => by omega⟩, fun y => y.1⟩)
  rwa [show k + -2 = k - 2 by omega] at h0
theorem c_isInnerPlace (hm : rh_ms wm) {k W : Int} {c : Int → Int} (M : rhM) (hM : ∀ u, 0 ≤ u → u ≤ W → M 57 u = c u) (hW : W ≤ 128) (hk : 2 ≤ k ∧ k + 2 ≤ W) :
    eC wm YX32_isInnerPlace 0 [(2, 0), (0, k)] M (rh_if (inn c k) 1 0) M := by
  refine eC.of1 (rC1.of (by decide) (LE0 rfl) ?_)
  refine rh1.of (rX32_isInnerPlace_0 hm _ _ ?_)
  have key : ∀ (vq : Nat) (d : Int), (3 - d).toNat = vq → (-2 ≤ d) → (d ≤ 3) → ((∀ e, -2 ≤ e → e < d → c k ≤ c (k + e))) → rh1 wm YX32_isInnerPlace 0 3 [(0, 2, 0), (1, 0, k), (2, 0, d)] [] M (fun r M' => r = rh_if (inn c k) 1 0 ∧ M' = M) := by
    intro vq
    induction vq using Nat.strongRecOn with
    | ind vq ih =>
      intro d hvq d0 d1 hv2
      replace hv2 := Hid.mk hv2
      refine rh1.of (rX32_isInnerPlace_3 hm _ _ _ ?_)
      refine ⟨fun z => ?_, fun z => ?_⟩
      · rw [hM k (by omega) (by omega), hM (k + d) (by omega) (by omega)]
        refine ⟨⟨by omega, by omega⟩, ⟨by omega, by omega⟩, fun y => ⟨?_, rfl⟩, fun y => ⟨⟨by omega, by omega⟩, ih _ (by omega) (d + 1) rfl (by omega) (by omega) (fun e e0 e1 => ?_)⟩⟩
        · rw [rh_if_f (fun w : inn c k => by have := w.2 d d0 (by omega); omega)]
        · by_cases w : e = d
          · rw [w]; omega
          · exact hv2.out e e0 (by omega)
      · rw [hM k (by omega) (by omega), hM (k - 1) (by omega) (by omega)]
        exact ⟨⟨by omega, by omega⟩, ⟨by omega, by omega⟩, rh_if_cg ⟨fun y => ⟨y, fun e e0 e1 => hv2.out e e0 (by omega)⟩, fun y => y.1⟩, rfl⟩
  exact key _ (-2) rfl (by omega) (by omega) (fun e e0 e1 => by omega)
theorem c_putPlace (hm : rh_ms wm) {v i n : Int} (M : rhM) (hn : M 0 81 = n) (h0 : 0 ≤ n ∧ n < 140) (hi : 0 ≤ i ∧ i ≤ 1) :
    eC wm YX32_putPlace 0 [(2, 0), (0, v), (0, i)] M 0 (rh_set (rh_set (rh_set M 60 n v) 61 n i) 0 81 (n + 1)) := by
  refine eC.of1 (rC1.of (by decide) (LE0 rfl) ?_)
  refine rh1.of (rX32_putPlace_0 hm _ _ _ ?_)
  rw [hn]
  refine ⟨h0, ?_⟩
  rintro _ rfl
  simp (disch := omega) only [rh_set_a, hn]
  refine ⟨h0, hi, ?_⟩
  rintro _ rfl
  simp (disch := omega) only [rh_set_a, hn]
  exact ⟨⟨by omega, by omega⟩, by first | rfl | trivial, by first | rfl | trivial⟩
/-- a place more, if there is room -/
noncomputable def pm (M : rhM) (n v i : Int) : rhM := rh_if (n < 16) (rh_set (rh_set M 27 n v) 28 n i) M
theorem pm_f {M : rhM} {n v i : Int} {F : Int → Int → Prop} (h1 : ∀ j, F 27 j) (h2 : ∀ j, F 28 j) : frx F M (pm M n v i) := by
  unfold pm
  by_cases h : n < 16
  · rw [rh_if_t h]; exact (frx.rf.st (h1 _)).st (h2 _)
  · rw [rh_if_f h]; exact frx.rf
/-- places on both sides -/
def PlS (M1 M2 : rhM) (W n : Int) : Prop := ∀ i, 0 ≤ i → i < n → (i < 16 → M1 27 i = M2 60 i ∧ M1 28 i = M2 61 i) ∧ (0 ≤ M2 60 i ∧ M2 60 i ≤ W) ∧ (M2 61 i = 0 ∨ (M2 61 i = 1 ∧ M2 60 i < W))
theorem PlS.add {M1 M2 : rhM} {W n v i : Int} (h : PlS M1 M2 W n) (hn : 0 ≤ n) (hv : 0 ≤ v ∧ v ≤ W) (hi : i = 0 ∨ (i = 1 ∧ v < W)) : PlS (pm M1 n v i) (rh_set (rh_set (rh_set M2 60 n v) 61 n i) 0 81 (n + 1)) W (n + 1) := by
  intro j j0 j1
  simp (disch := omega) only [rh_set_a]
  unfold pm
  by_cases q : j = n
  · rw [q, rh_set_s, rh_set_s]
    refine ⟨fun z => ?_, hv, hi⟩
    rw [rh_if_t z, rh_set_s, rh_set_a (by omega), rh_set_s]
    exact ⟨rfl, rfl⟩
  · rw [rh_set_j q, rh_set_j q]
    obtain ⟨a1, a2⟩ := h j j0 (by omega)
    refine ⟨fun z => ?_, a2⟩
    by_cases y : n < 16
    · rw [rh_if_t y, rh_set_a (by omega), rh_set_j q, rh_set_j q, rh_set_a (by omega)]; exact a1 z
    · rw [rh_if_f y]; exact a1 z
theorem c_places (hh : rh_hs wh) (hm : rh_ms wm) {n W h : Int} {c F E : Int → Int} (M1 M2 : rhM) (hW : W ≤ 128) (hn : 1 ≤ n ∧ n ≤ 64) (h8 : M1 25 8 = n) (h78 : M2 0 78 = n) (hF : ∀ r, 0 ≤ r → r < n → M1 29 r = F r ∧ M1 30 r = E r ∧ M2 58 r = F r ∧ M2 59 r = E r ∧ (0 ≤ F r ∧ F r < E r ∧ E r ≤ W)) (hE : ∀ r, 0 ≤ r → r + 1 < n → E r < F (r + 1)) (h26 : ∀ u, 0 ≤ u → u < 132 → M1 26 u = c u) (h57 : ∀ u, 0 ≤ u → u ≤ W → M2 57 u = c u) (hh1 : M1 25 2 = h) (hh2 : M2 0 82 = h) (h81 : M2 0 81 = 0) :
    rh2 wh YX16_findPlaces 1 0 [(0, 2, 25)] [] M1 wm YX32_findPlaces 4 186 [(0, 2, 0), (4, 0, 0)] [] M2 (fun r N1 r2 N2 => frx (fun d j => d = 27 ∨ d = 28 ∨ (d = 25 ∧ j = 7)) M1 N1 ∧ frx (fun d j => d = 60 ∨ d = 61 ∨ (d = 0 ∧ j = 81)) M2 N2 ∧ (2 ≤ N2 0 81 ∧ N2 0 81 ≤ 130) ∧ N1 25 7 = (if 16 < N2 0 81 then -1 else N2 0 81 - 1) ∧ PlS N1 N2 W (N2 0 81)) := by
  generalize hPost : (fun (r : Int) (N1 : rhM) (r2 : Int) (N2 : rhM) => frx (fun d j => d = 27 ∨ d = 28 ∨ (d = 25 ∧ j = 7)) M1 N1 ∧ frx (fun d j => d = 60 ∨ d = 61 ∨ (d = 0 ∧ j = 81)) M2 N2 ∧ (2 ≤ N2 0 81 ∧ N2 0 81 ≤ 130) ∧ N1 25 7 = (if 16 < N2 0 81 then -1 else N2 0 81 - 1) ∧ PlS N1 N2 W (N2 0 81)) = Post
  replace hF := Hid.mk hF
  replace hE := Hid.mk hE
  replace h26 := Hid.mk h26
  replace h57 := Hid.mk h57
  refine rh2.l (rX16_findPlaces_0 hh _ ?_)
  have key : ∀ (vq : Nat) (r m : Int) (N1 N2 : rhM), (n - r).toNat = vq → (0 ≤ r) → (r ≤ n) → (0 ≤ m) → (r ≤ m) → ((r < n → m ≤ F r)) → ((r = n → m ≤ E (n - 1))) → (frx (fun d j => d = 27 ∨ d = 28 ∨ (d = 25 ∧ j = 7)) M1 N1) → (frx (fun d j => d = 60 ∨ d = 61 ∨ (d = 0 ∧ j = 81)) M2 N2) → (N2 0 81 = m) → (Hid (PlS N1 N2 W m)) → rh2 wh YX16_findPlaces 1 4 [(0, 2, 25), (1, 0, m), (2, 0, r)] [] N1 wm YX32_findPlaces 4 186 [(0, 2, 0), (4, 0, r)] [] N2 Post := by
    intro vq
    induction vq using Nat.strongRecOn with
    | ind vq ih =>
      intro r m N1 N2 hvq r0 r1 m0 mr mF mE f1 f2 g81 hP
      replace mF := Hid.mk mF
      replace mE := Hid.mk mE
      have g8 : N1 25 8 = n := by rw [f1 _ _ (by omega), h8]
      have g78 : N2 0 78 = n := by rw [f2 _ _ (by omega), h78]
      refine rh2.l (rX16_findPlaces_4 hh _ _ _ ?_)
      rw [g8]
      refine ⟨fun z => ?_, fun z => ?_⟩
      · obtain ⟨a1, a2, a3, a4, a5⟩ := hF.out r r0 z
        have m1 := mF.out z
        have e29 : N1 29 r = F r := by rw [f1 _ _ (by omega), a1]
        have e58 : N2 58 r = F r := by rw [f2 _ _ (by omega), a3]
        rw [e29]
        have fm : frx (fun d j => d = 27 ∨ d = 28 ∨ (d = 25 ∧ j = 7)) M1 (pm N1 m (F r) 0) := f1.tr (pm_f (fun _ => (by omega)) (fun _ => (by omega)))
        refine ⟨⟨by omega, by omega⟩, fun _ => ⟨by omega, by omega⟩, fun _ => ⟨by omega, by omega⟩, fun _ => ⟨by omega, by omega⟩, ⟨by omega, by omega⟩, fun Ma ea => ?_⟩
        have ea2 : Ma = pm N1 m (F r) 0 := ea
        have e29' : Ma 29 r = F r := by rw [ea2, fm _ _ (by omega), a1]
        rw [e29']
        refine ⟨⟨by omega, by omega⟩, ⟨by omega, by omega⟩, ?_⟩
        refine rh2.r (rX32_findPlaces_186 hm _ _ ?_)
        rw [g78, e58]
        refine ⟨fun _ => ⟨⟨by omega, by omega⟩, ?_⟩, fun y => absurd z y⟩
        refine rh2.sr (vX32_findPlaces_204 hm (c_putPlace hm (v := F r) (i := 0) N2 g81 ⟨by omega, by omega⟩ ⟨by omega, by omega⟩) (LE0 rfl)) ?_
        have P1 := hP.add m0 (v := F r) (i := 0) ⟨by omega, by omega⟩ (.inl rfl)
        rw [← ea2] at P1
        generalize hNb : rh_set (rh_set (rh_set N2 60 m (F r)) 61 m 0) 0 81 (m + 1) = Nb at *
        have fb : frx (fun d j => d = 60 ∨ d = 61 ∨ (d = 0 ∧ j = 81)) M2 Nb := by rw [← hNb]; exact ((f2.st (by omega)).st (by omega)).st (by omega)
        rw [← ea2] at fm
        refine rh2.r (rX32_findPlaces_207 hm _ _ ?_)
        have b58 : Nb 58 r = F r := by rw [fb _ _ (by omega), a3]
        have b59 : Nb 59 r = E r := by rw [fb _ _ (by omega), a4]
        have b82 : Nb 0 82 = h := by rw [fb _ _ (by omega), hh2]
        rw [b58, b59, b82]
        refine ⟨⟨by omega, by omega⟩, ⟨by omega, by omega⟩, ⟨by omega, by omega⟩, fun fl efl => ⟨⟨by omega, by omega⟩, ⟨by omega, by omega⟩, ?_⟩⟩
        have b81 : Nb 0 81 = m + 1 := by rw [← hNb, rh_set_s]
        -- columns within the run
        have inner : ∀ (vq : Nat) (k q : Int) (A1 A2 : rhM), (E r - k).toNat = vq → F r + 2 ≤ k → 1 ≤ q → r + 1 ≤ q → q ≤ k - 1 → frx (fun d j => d = 27 ∨ d = 28 ∨ (d = 25 ∧ j = 7)) M1 A1 → frx (fun d j => d = 60 ∨ d = 61 ∨ (d = 0 ∧ j = 81)) M2 A2 → A2 0 81 = q → Hid (PlS A1 A2 W q) → (k < E r - 2 ∨ q ≤ E r) → rh2 wh YX16_findPlaces 1 34 [(0, 2, 25), (1, 0, q), (2, 0, r), (3, 0, k)] [] A1 wm YX32_findPlaces 4 247 [(0, 2, 0), (4, 0, r), (5, 0, fl), (6, 0, k)] [] A2 Post := by
          intro vq
          induction vq using Nat.strongRecOn with
          | ind vq ihi =>
            intro k q A1 A2 hvq k0 q0 qr qk F1 F2 q81 hP hq
            replace hq := Hid.mk hq
            have c29 : A1 29 r = F r := by rw [F1 _ _ (by omega), a1]
            have c30 : A1 30 r = E r := by rw [F1 _ _ (by omega), a2]
            have c2 : A1 25 2 = h := by rw [F1 _ _ (by omega), hh1]
            have d59 : A2 59 r = E r := by rw [F2 _ _ (by omega), a4]
            refine rh2.l (rX16_findPlaces_34 hh _ _ _ _ ?_)
            rw [c29, c30, c2]
            refine ⟨⟨by omega, by omega⟩, ⟨by omega, by omega⟩, fun _ => ⟨by omega, by omega⟩, fun _ => ⟨by omega, by omega⟩, fun _ => ⟨by omega, by omega⟩, fun y => ?_, fun y => ⟨⟨by omega, by omega⟩, ?_⟩⟩
            · have i1 := c_isInner hh (r := r) (k := k) (c := c) A1 (fun u u0 u1 => by rw [F1 _ _ (by omega)]; exact h26.out u u0 u1) ⟨by omega, by omega⟩ ⟨by omega, by omega⟩ (by rw [c29]; omega) (by rw [c29]; omega) (by rw [c30]; omega) (by rw [c30]; omega)
              have i2 := c_isInnerPlace hm (k := k) (W := W) (c := c) A2 (fun u u0 u1 => by rw [F2 _ _ (by omega)]; exact h57.out u u0 u1) hW ⟨by omega, by omega⟩
              refine rh2.sl (vX16_findPlaces_69 hh i1 (LE0 rfl)) ?_
              refine rh2.r (rX32_findPlaces_247 hm _ _ _ _ ?_)
              rw [d59]
              have flz : fl ≠ 0 := by rw [efl, if1_ne]; exact y.2
              refine ⟨⟨by omega, by omega⟩, ⟨by omega, by omega⟩, fun _ => ?_, fun w => absurd ⟨by omega, flz⟩ w⟩
              refine rh2.sr (vX32_findPlaces_269 hm i2 (LE0 rfl)) ?_
              refine rh2.l (rX16_findPlaces_72 hh _ _ _ _ _ ?_)
              rw [if1_ne]
              refine ⟨fun w => ⟨fun _ => ⟨by omega, by omega⟩, fun _ => ⟨by omega, by omega⟩, fun _ => ⟨by omega, by omega⟩, ⟨by omega, by omega⟩, ⟨by omega, by omega⟩, ?_⟩, fun w => ⟨⟨by omega, by omega⟩, ?_⟩⟩
              · refine rh2.r (rX32_findPlaces_272 hm _ _ _ _ _ ?_)
                rw [if1_ne]
                refine ⟨fun _ => ?_, fun u => absurd w u⟩
                refine rh2.sr (vX32_findPlaces_279 hm (c_putPlace hm (v := k) (i := 1) A2 q81 ⟨by omega, by omega⟩ ⟨by omega, by omega⟩) (LE0 rfl)) ?_
                refine rh2.r (rX32_findPlaces_282 hm _ _ _ _ ?_)
                refine ⟨⟨by omega, by omega⟩, ?_⟩
                have P2 := hP.add (show 0 ≤ q by omega) (v := k) (i := 1) ⟨by omega, by omega⟩ (.inr ⟨rfl, by omega⟩)
                exact ihi _ (by omega) (k + 1) (q + 1) (pm A1 q k 1) _ rfl (by omega) (by omega) (by omega) (by omega) (F1.tr (pm_f (fun _ => (by omega)) (fun _ => (by omega)))) (((F2.st (by omega)).st (by omega)).st (by omega)) (rh_set_s _ _ _ _) P2 (.inr (by omega))
              · refine rh2.r (rX32_findPlaces_272 hm _ _ _ _ _ ?_)
                rw [if1_ne]
                exact ⟨fun u => absurd u w, fun _ => ⟨⟨by omega, by omega⟩, ihi _ (by omega) (k + 1) q A1 A2 rfl (by omega) (by omega) (by omega) (by omega) F1 F2 q81 hP (.inr (by omega))⟩⟩
            · refine rh2.r (rX32_findPlaces_247 hm _ _ _ _ ?_)
              rw [d59]
              refine ⟨⟨by omega, by omega⟩, ⟨by omega, by omega⟩, fun w => absurd ⟨by omega, by have w2 := w.2; rw [efl, if1_ne] at w2; exact w2⟩ y, fun _ => ⟨⟨by omega, by omega⟩, ?_⟩⟩
              have qE : q ≤ E r := by
                rcases hq.out with w | w
                · omega
                · exact w
              refine ih _ (by omega) (r + 1) q A1 A2 rfl (by omega) (by omega) (by omega) (by omega) (fun w => ?_) (fun w => ?_) F1 F2 q81 hP
              · have := hE.out r r0 w; omega
              · rw [← w, show r + 1 - 1 = r by omega]; exact qE
        refine inner _ (F r + 2) (m + 1) Ma Nb rfl (by omega) (by omega) (by omega) (by omega) fm fb b81 P1 ?_
        by_cases w : F r + 2 < E r - 2
        · exact .inl w
        · exact .inr (by omega)
      · have rn : r = n := (by omega)
        have mE' := mE.out rn
        obtain ⟨a1, a2, a3, a4, a5⟩ := hF.out (n - 1) (by omega) (by omega)
        have e30 : N1 30 (n - 1) = E (n - 1) := by rw [f1 _ _ (by omega), a2]
        have e59 : N2 59 (n - 1) = E (n - 1) := by rw [f2 _ _ (by omega), a4]
        rw [e30]
        refine ⟨⟨by omega, by omega⟩, fun _ => ⟨by omega, by omega⟩, fun _ => ⟨by omega, by omega⟩, fun _ => ⟨by omega, by omega⟩, ⟨by omega, by omega⟩, fun v ev => ⟨?_, ?_⟩⟩
        · rw [ev, rh_ifd]; split <;> exact ⟨by omega, by omega⟩
        · refine rh1.of (rX32_findPlaces_186 hm _ _ ?_)
          rw [g78, e59]
          refine ⟨fun y => absurd y z, fun _ => ⟨⟨by omega, by omega⟩, ?_⟩⟩
          refine rh1.s (vX32_findPlaces_307 hm (c_putPlace hm (v := E (n - 1)) (i := 0) N2 g81 ⟨by omega, by omega⟩ ⟨by omega, by omega⟩) (LE0 rfl)) ?_
          refine rh1.of (rX32_findPlaces_310 hm _ ?_)
          have P2 := hP.add m0 (v := E (n - 1)) (i := 0) ⟨by omega, by omega⟩ (.inl rfl)
          rw [← hPost]
          have ep : rh_if (m < 16) (rh_set (rh_set N1 27 m (E (n - 1))) 28 m 0) N1 = pm N1 m (E (n - 1)) 0 := rfl
          rw [ep]
          refine ⟨(f1.tr (pm_f (fun _ => (by omega)) (fun _ => (by omega)))).st (by omega), ((f2.st (by omega)).st (by omega)).st (by omega), ?_, ?_, ?_⟩
          · rw [rh_set_s]; omega
          · rw [rh_set_s, rh_set_s, ev, rh_ifd]
          · rw [rh_set_s]
            intro i i0 i1
            rw [rh_set_a (by omega), rh_set_a (by omega)]
            exact P2 i i0 i1
  refine key _ 0 0 M1 M2 rfl (by omega) (by omega) (by omega) (by omega) (fun w => ?_) (fun w => by omega) frx.rf frx.rf h81 (fun i i0 i1 => by omega)
  have := (hF.out 0 (by omega) (by omega)).2.2.2.2
  omega
end Places
