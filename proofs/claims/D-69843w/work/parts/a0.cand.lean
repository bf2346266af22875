/-! ===== LAYER 2: candidates: pure, distances, trees ===== -/
section Cand
variable {wh wm : rhW}
def dst (F G : Int → Int) (f : Int) : Nat → Int
  | 0 => 0
  | k + 1 => dst F G f k + (if (k : Int) < 16 then (F k - G (19 * f + k)) * (F k - G (19 * f + k)) else 2 * (F k - G (19 * f + k)) * (F k - G (19 * f + k)))
theorem dst_b {F G : Int → Int} {f : Int} (hF : ∀ k, 0 ≤ k → k < 19 → 0 ≤ F k ∧ F k ≤ 6144) (hG : ∀ k, 0 ≤ k → k < 19 → 0 ≤ G (19 * f + k) ∧ G (19 * f + k) ≤ 6144) : ∀ k : Nat, k ≤ 19 → 0 ≤ dst F G f k ∧ dst F G f k ≤ 75497472 * k
  | 0 => fun _ => ⟨Int.le_refl _, Int.le_refl _⟩
  | k + 1 => fun hk => by
    have h := dst_b hF hG k (by omega)
    have a := hF k (by omega) (by omega)
    have b := hG k (by omega) (by omega)
    have q := sqB (a := F k - G (19 * f + k)) (A := 6144) (by omega) (by omega)
    simp only [dst]
    rw [Int.mul_assoc 2]
    split <;> omega
theorem c_distH (hh : rh_hs wh) {F G : Int → Int} {f : Int} (hf : 0 ≤ f ∧ f < 150) (M : rhM) (hF : ∀ k, 0 ≤ k → k < 19 → M 31 k = F k ∧ 0 ≤ F k ∧ F k ≤ 6144) (hG : ∀ k, 0 ≤ k → k < 19 → M 47 (19 * f + k) = G (19 * f + k) ∧ 0 ≤ G (19 * f + k) ∧ G (19 * f + k) ≤ 6144) :
    eC wh YX17_distance 0 [(2, 41), (0, f), (2, 31)] M (dst F G f 19) M := by
  have hb : rh_bl wh 6 31 19 := rh_bl.of (o := 31) (m := 19) hh (by decide +kernel)
  refine eC.of1 (rC1.of (by decide) (LE0 rfl) ?_)
  refine rh1.of (rX17_distance_0 hh _ _ _ _ hb ?_)
  have key : ∀ (vq : Nat) (k : Nat) (s : Int), (19 - (k : Int)).toNat = vq → (k ≤ 19) → (s = dst F G f k) → rh1 wh YX17_distance 0 5 [(0, 2, 41), (1, 0, f), (2, 2, 31), (3, 0, s), (4, 0, (k : Int))] [] M (fun r M' => r = dst F G f 19 ∧ M' = M) := by
    intro vq
    induction vq using Nat.strongRecOn with
    | ind vq ih =>
      intro k s hvq k1 hs
      have db := dst_b (F := F) (G := G) (f := f) (fun k k0 k1 => (hF k k0 k1).2) (fun k k0 k1 => (hG k k0 k1).2)
      have b1 := db k (by omega)
      refine rh1.of (rX17_distance_5 hh _ _ _ _ _ _ hb ?_)
      refine ⟨fun c => ?_, fun c => ⟨by rw [hs, show k = 19 by omega], rfl⟩⟩
      have a := hF k (by omega) c
      have b := hG k (by omega) c
      have b2 := db (k + 1) (by omega)
      rw [a.1, b.1]
      refine ⟨⟨by omega, by omega⟩, ⟨by omega, by omega⟩, ?_⟩
      rintro _ rfl
      refine ⟨⟨by omega, by omega⟩, fun v ev => ?_⟩
      have ev2 : v = dst F G f (k + 1) := by
        rw [ev, hs, rh_ifd]
        simp only [dst]
        by_cases q : (k : Int) < 16
        · rw [if_pos q, if_pos q, Int.one_mul]
        · rw [if_neg q, if_neg q]
      refine ⟨⟨by omega, by omega⟩, ⟨by omega, by omega⟩, ?_⟩
      rw [show (k : Int) + 1 = ((k + 1 : Nat) : Int) by omega]
      exact ih _ (by omega) (k + 1) v rfl (by omega) ev2
  exact key _ 0 0 rfl (by omega) rfl
theorem c_distM (hm : rh_ms wm) {F G : Int → Int} {f : Int} (hf : 0 ≤ f ∧ f < 150) (M : rhM) (hF : ∀ k, 0 ≤ k → k < 19 → M 62 k = F k ∧ 0 ≤ F k ∧ F k ≤ 6144) (hG : ∀ k, 0 ≤ k → k < 19 → M 68 (19 * f + k) = G (19 * f + k) ∧ 0 ≤ G (19 * f + k) ∧ G (19 * f + k) ≤ 6144) :
    eC wm YX32_distance 0 [(2, 0), (0, f)] M (dst F G f 19) M := by
  refine eC.of1 (rC1.of (by decide) (LE0 rfl) ?_)
  refine rh1.of (rX32_distance_0 hm _ _ ?_)
  have key : ∀ (vq : Nat) (k : Nat) (s : Int), (19 - (k : Int)).toNat = vq → (k ≤ 19) → (s = dst F G f k) → rh1 wm YX32_distance 0 4 [(0, 2, 0), (1, 0, f), (2, 0, s), (3, 0, (k : Int))] [] M (fun r M' => r = dst F G f 19 ∧ M' = M) := by
    intro vq
    induction vq using Nat.strongRecOn with
    | ind vq ih =>
      intro k s hvq k1 hs
      have db := dst_b (F := F) (G := G) (f := f) (fun k k0 k1 => (hF k k0 k1).2) (fun k k0 k1 => (hG k k0 k1).2)
      have b1 := db k (by omega)
      refine rh1.of (rX32_distance_4 hm _ _ _ _ ?_)
      refine ⟨fun c => ?_, fun c => ⟨by rw [hs, show k = 19 by omega], rfl⟩⟩
      have a := hF k (by omega) c
      have b := hG k (by omega) c
      have b2 := db (k + 1) (by omega)
      rw [a.1, b.1]
      refine ⟨⟨by omega, by omega⟩, ⟨by omega, by omega⟩, ?_⟩
      rintro _ rfl
      refine ⟨⟨by omega, by omega⟩, fun v ev => ?_⟩
      have ev2 : v = dst F G f (k + 1) := by
        rw [ev, hs, rh_ifd]
        simp only [dst]
      refine ⟨⟨by omega, by omega⟩, ⟨by omega, by omega⟩, ?_⟩
      rw [show (k : Int) + 1 = ((k + 1 : Nat) : Int) by omega]
      exact ih _ (by omega) (k + 1) v rfl (by omega) ev2
  exact key _ 0 0 rfl (by omega) rfl
/-- what a tree tells, on both sides -/
theorem c_told (hh : rh_hs wh) (hm : rh_ms wm) {fc : Int} (hf : 0 ≤ fc ∧ fc < 4) {Mh Mm : rhM} (R : Rtr Mh Mm) (hs : 0 < Mm 75 fc) (hF : ∀ k, 0 ≤ k → k < 19 → Mh 31 k = Mm 62 k) :
    ∃ v, eC wh YX17_toldBy 0 [(2, 41), (0, fc), (2, 31)] Mh v Mh ∧ eC wm YX32_letterByTree 0 [(2, 0), (0, fc)] Mm v Mm ∧ 0 ≤ v ∧ v < 128 := by
  have hb : rh_bl wh 6 31 19 := rh_bl.of (o := 31) (m := 19) hh (by decide +kernel)
  have C : rC2 wh YX17_toldBy 0 [(2, 41), (0, fc), (2, 31)] Mh wm YX32_letterByTree 0 [(2, 0), (0, fc)] Mm (fun r M1 r2 M2 => r = r2 ∧ (0 ≤ r ∧ r < 128) ∧ M1 = Mh ∧ M2 = Mm) := by
    refine rC2.of (by decide) (LE0 rfl) (by decide) (LE0 rfl) ?_
    obtain ⟨r1, r2, r3⟩ := R fc hf.1 hf.2
    refine rh2.l (rX17_toldBy_0 hh _ _ _ _ hb ?_)
    refine ⟨⟨by omega, by omega⟩, ?_⟩
    refine rh2.r (rX32_letterByTree_0 hm _ _ ?_)
    have key : ∀ (vq : Nat) (n : Int), (300 - n).toNat = vq → (0 ≤ n) → (n < Mm 75 fc) → rh2 wh YX17_toldBy 0 6 [(0, 2, 41), (1, 0, fc), (2, 2, 31), (3, 0, 300 * fc + n)] [] Mh wm YX32_letterByTree 0 2 [(0, 2, 0), (1, 0, fc), (2, 0, n)] [] Mm (fun r M1 r2 M2 => r = r2 ∧ (0 ≤ r ∧ r < 128) ∧ M1 = Mh ∧ M2 = Mm) := by
      intro vq
      induction vq using Nat.strongRecOn with
      | ind vq ih =>
        intro n hvq n0 n1
        obtain ⟨a1, a2, a3, a4, a5, a6, a7⟩ := r3 n n0 n1
        have hq : 0 ≤ 300 * fc + n ∧ 300 * fc + n < 1200 := ⟨by omega, by omega⟩
        refine rh2.l (rX17_toldBy_6 hh _ _ _ _ _ hb ?_)
        rw [a1, a2, a3, a4]
        refine ⟨hq, fun c => ?_, fun c => ⟨hq, ?_⟩⟩
        · rcases a6 with a6 | a6
          · exact absurd a6 c
          · rw [hF _ a6.1.1 a6.1.2]
            refine ⟨hq, hq, a6.1, hq, fun v ev => ⟨?_, ?_⟩⟩
            · have := if1_b (P := Mm 77 (300 * fc + n) < Mm 62 (Mm 76 (300 * fc + n))); exact ⟨by omega, by omega⟩
            · refine rh2.r (rX32_letterByTree_2 hm _ _ _ ?_)
              refine ⟨hq, fun _ => ⟨⟨by omega, by omega⟩, hq, a6.1, hq, fun _ => hq, fun _ => hq, fun u eu => ⟨?_, ?_⟩⟩, fun z => absurd c z⟩
              · rw [eu, rh_ifd]; split <;> exact ⟨by omega, by omega⟩
              · have euv : v = 300 * fc + u := by
                  rw [ev, eu, rh_ifd, rh_ifd]; split <;> split <;> omega
                have ub : n < u ∧ u < Mm 75 fc := by rw [eu, rh_ifd]; split <;> omega
                rw [euv]
                exact ih _ (by omega) u rfl (by omega) (by omega)
        · refine rh1.of (rX32_letterByTree_2 hm _ _ _ ?_)
          exact ⟨hq, fun z => absurd z c, fun _ => ⟨hq, rfl, a7, rfl, rfl⟩⟩
    have h0 := key _ 0 rfl (by omega) hs
    rwa [Int.add_zero] at h0
  obtain ⟨r, M1, r2, M2, E1, E2, e1, vb, e2, e3⟩ := C
  rw [e2] at E1
  rw [e3, ← e1] at E2
  exact ⟨r, E1, E2, vb.1, vb.2⟩
/-- nearest forms by letters -/
def ndd (fc lt D : Int → Int) (face : Int) : Nat → Int → Int
  | 0 => fun _ => -1
  | k + 1 => if fc k = face ∧ (ndd fc lt D face k (lt k) = -1 ∨ D k < ndd fc lt D face k (lt k)) then upz (ndd fc lt D face k) (lt k) (D k) else ndd fc lt D face k
def ndf (fc lt D : Int → Int) (face : Int) : Nat → Int → Int
  | 0 => fun _ => 0
  | k + 1 => if fc k = face ∧ (ndd fc lt D face k (lt k) = -1 ∨ D k < ndd fc lt D face k (lt k)) then upz (ndf fc lt D face k) (lt k) k else ndf fc lt D face k
theorem ndd_b {fc lt D : Int → Int} {face : Int} : ∀ k : Nat, (∀ f : Int, 0 ≤ f → f < k → 0 ≤ D f ∧ D f ≤ 2000000000) → ∀ c, -1 ≤ ndd fc lt D face k c ∧ ndd fc lt D face k c ≤ 2000000000
  | 0 => fun _ c => by simp only [ndd]; omega
  | k + 1 => fun h c => by
    have h1 := ndd_b (fc := fc) (lt := lt) (face := face) k (fun f a b => h f a (by omega)) c
    have h2 := h k (by omega) (by omega)
    simp only [ndd]
    split
    · unfold upz; split <;> omega
    · exact h1
theorem ndd_l {fc lt D : Int → Int} {face : Int} : ∀ k : Nat, (∀ f : Int, 0 ≤ f → f < k → 33 ≤ lt f ∧ lt f ≤ 126) → ∀ c, ¬ (33 ≤ c ∧ c ≤ 126) → ndd fc lt D face k c = -1
  | 0 => fun _ c _ => rfl
  | k + 1 => fun h c hc => by
    have h1 := ndd_l (fc := fc) (D := D) (face := face) k (fun f a b => h f a (by omega)) c hc
    have h2 := h k (by omega) (by omega)
    simp only [ndd]
    split
    · unfold upz; rw [if_neg (fun z => hc (by omega))]; exact h1
    · exact h1
theorem ndf_b {fc lt D : Int → Int} {face : Int} : ∀ k : Nat, ∀ c, 0 ≤ ndf fc lt D face k c ∧ ndf fc lt D face k c ≤ k
  | 0 => fun c => by simp only [ndf]; omega
  | k + 1 => fun c => by
    have h1 := ndf_b (fc := fc) (lt := lt) (D := D) (face := face) k c
    simp only [ndf]
    split
    · unfold upz; split <;> omega
    · omega
/-- the three best: the first, the second, the third -/
noncomputable def ee0 (K : Int → Int) (N : Nat) : Int := nxt (fun c => K c ≠ -1) K (fun _ => 0) N
noncomputable def ee1 (K : Int → Int) (N : Nat) : Int := nxt (fun c => K c ≠ -1 ∧ c ≠ ee0 K N) K (fun _ => 0) N
noncomputable def ee2 (K : Int → Int) (N : Nat) : Int := nxt (fun c => K c ≠ -1 ∧ c ≠ ee0 K N ∧ c ≠ ee1 K N) K (fun _ => 0) N
theorem nxt_sk {al : Int → Prop} {T L : Int → Int} {k : Nat} (h : ¬ al k) : nxt al T L (k + 1) = nxt al T L k := by
  simp only [nxt]; rw [rh_if_f (fun z => h z.1)]
theorem nxt_in {al : Int → Prop} {T : Int → Int} {k : Nat} (h : al k) (h2 : nxt al T (fun _ => 0) k = -1 ∨ T k < T (nxt al T (fun _ => 0) k)) : nxt al T (fun _ => 0) (k + 1) = k := by
  simp only [nxt]; rw [rh_if_t ⟨h, h2.elim .inl (fun z => .inr (.inl z))⟩]
theorem nxt_out {al : Int → Prop} {T : Int → Int} {k : Nat} (h2 : ¬ (nxt al T (fun _ => 0) k = -1 ∨ T k < T (nxt al T (fun _ => 0) k))) : nxt al T (fun _ => 0) (k + 1) = nxt al T (fun _ => 0) k := by
  simp only [nxt]
  rw [rh_if_f]
  rintro ⟨-, z | z | z⟩
  · exact h2 (.inl z)
  · exact h2 (.inr z)
  · omega
theorem ee_lt (K : Int → Int) (N : Nat) : ee0 K N < N ∧ ee1 K N < N ∧ ee2 K N < N := by
  refine ⟨?_, ?_, ?_⟩
  · rcases nxt_b (al := fun c => K c ≠ -1) (T := K) (L := fun _ => 0) N with h | h
    · unfold ee0; omega
    · exact h.2.1
  · rcases nxt_b (al := fun c => K c ≠ -1 ∧ c ≠ ee0 K N) (T := K) (L := fun _ => 0) N with h | h
    · unfold ee1; omega
    · exact h.2.1
  · rcases nxt_b (al := fun c => K c ≠ -1 ∧ c ≠ ee0 K N ∧ c ≠ ee1 K N) (T := K) (L := fun _ => 0) N with h | h
    · unfold ee2; omega
    · exact h.2.1
theorem ee_skip {K : Int → Int} {N : Nat} (h : K N = -1) : ee0 K (N + 1) = ee0 K N ∧ ee1 K (N + 1) = ee1 K N ∧ ee2 K (N + 1) = ee2 K N := by
  have e0 : ee0 K (N + 1) = ee0 K N := nxt_sk (fun z => z h)
  have e1 : ee1 K (N + 1) = ee1 K N := by
    unfold ee1; rw [e0]; exact nxt_sk (fun z => z.1 h)
  refine ⟨e0, e1, ?_⟩
  unfold ee2
  rw [e0, e1]
  exact nxt_sk (fun z => z.1 h)
theorem ee_A {K : Int → Int} {N : Nat} (h : K N ≠ -1) (hA : ee0 K N = -1 ∨ K N < K (ee0 K N)) : ee0 K (N + 1) = N ∧ ee1 K (N + 1) = ee0 K N ∧ ee2 K (N + 1) = ee1 K N := by
  have e0 : ee0 K (N + 1) = N := nxt_in h hA
  have e1 : ee1 K (N + 1) = ee0 K N := by
    unfold ee1
    rw [e0, nxt_sk (fun z => z.2 rfl)]
    exact nxt_cg N (fun i i0 i1 => ⟨fun z => z.1, fun z => ⟨z, by omega⟩⟩) (fun _ _ _ _ => ⟨rfl, rfl⟩)
  refine ⟨e0, e1, ?_⟩
  unfold ee2
  rw [e0, e1, nxt_sk (fun z => z.2.1 rfl)]
  exact nxt_cg N (fun i i0 i1 => ⟨fun z => ⟨z.1, z.2.2⟩, fun z => ⟨z.1, by omega, z.2⟩⟩) (fun _ _ _ _ => ⟨rfl, rfl⟩)
theorem ee_B {K : Int → Int} {N : Nat} (h : K N ≠ -1) (hA : ¬ (ee0 K N = -1 ∨ K N < K (ee0 K N))) (hB : ee1 K N = -1 ∨ K N < K (ee1 K N)) : ee0 K (N + 1) = ee0 K N ∧ ee1 K (N + 1) = N ∧ ee2 K (N + 1) = ee1 K N := by
  have l := ee_lt K N
  have e0 : ee0 K (N + 1) = ee0 K N := nxt_out hA
  have e1 : ee1 K (N + 1) = N := by
    unfold ee1
    rw [e0]
    exact nxt_in ⟨h, by omega⟩ hB
  refine ⟨e0, e1, ?_⟩
  unfold ee2
  rw [e0, e1, nxt_sk (fun z => z.2.2 rfl)]
  exact nxt_cg N (fun i i0 i1 => ⟨fun z => ⟨z.1, z.2.1⟩, fun z => ⟨z.1, z.2, by omega⟩⟩) (fun _ _ _ _ => ⟨rfl, rfl⟩)
theorem ee_C {K : Int → Int} {N : Nat} (h : K N ≠ -1) (hA : ¬ (ee0 K N = -1 ∨ K N < K (ee0 K N))) (hB : ¬ (ee1 K N = -1 ∨ K N < K (ee1 K N))) : ee0 K (N + 1) = ee0 K N ∧ ee1 K (N + 1) = ee1 K N ∧ ((ee2 K N = -1 ∨ K N < K (ee2 K N)) → ee2 K (N + 1) = N) ∧ (¬ (ee2 K N = -1 ∨ K N < K (ee2 K N)) → ee2 K (N + 1) = ee2 K N) := by
  have l := ee_lt K N
  have e0 : ee0 K (N + 1) = ee0 K N := nxt_out hA
  have e1 : ee1 K (N + 1) = ee1 K N := by
    unfold ee1
    rw [e0]
    exact nxt_out hB
  refine ⟨e0, e1, fun hC => ?_, fun hC => ?_⟩
  · unfold ee2
    rw [e0, e1]
    exact nxt_in ⟨h, by omega, by omega⟩ hC
  · unfold ee2
    rw [e0, e1]
    exact nxt_out hC
theorem ee_ord {K : Int → Int} {N : Nat} : (ee0 K N = -1 → ee1 K N = -1) ∧ (ee1 K N = -1 → ee2 K N = -1) ∧ (ee1 K N ≠ -1 → K (ee0 K N) ≤ K (ee1 K N)) ∧ (ee2 K N ≠ -1 → K (ee1 K N) ≤ K (ee2 K N)) := by
  induction N with
  | zero => exact ⟨fun _ => rfl, fun _ => rfl, fun z => absurd rfl z, fun z => absurd rfl z⟩
  | succ N ih =>
    obtain ⟨i1, i2, i3, i4⟩ := ih
    by_cases h : K N = -1
    · obtain ⟨a, b, c⟩ := ee_skip h
      rw [a, b, c]; exact ⟨i1, i2, i3, i4⟩
    · by_cases hA : ee0 K N = -1 ∨ K N < K (ee0 K N)
      · obtain ⟨a, b, c⟩ := ee_A h hA
        rw [a, b, c]
        refine ⟨fun z => by omega, i1, fun z => ?_, i3⟩
        rcases hA with q | q
        · exact absurd q z
        · omega
      · by_cases hB : ee1 K N = -1 ∨ K N < K (ee1 K N)
        · obtain ⟨a, b, c⟩ := ee_B h hA hB
          rw [a, b, c]
          refine ⟨fun z => absurd (.inl z) hA, fun z => by omega, fun _ => ?_, fun z => ?_⟩
          · exact Int.not_lt.mp (fun q => hA (.inr q))
          · rcases hB with q | q
            · exact absurd q z
            · omega
        · obtain ⟨a, b, c, d⟩ := ee_C h hA hB
          rw [a, b]
          by_cases hC : ee2 K N = -1 ∨ K N < K (ee2 K N)
          · rw [c hC]
            refine ⟨i1, fun z => absurd (.inl z) hB, i3, fun _ => Int.not_lt.mp (fun q => hB (.inr q))⟩
          · rw [d hC]
            exact ⟨i1, i2, i3, i4⟩
end Cand
