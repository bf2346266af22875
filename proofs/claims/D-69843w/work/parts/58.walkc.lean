/-! ===== LAYER 2: the walk around a piece ===== -/
section WalkC
variable {wh wm : rhW}
theorem and3 {d : Int} (h : 0 ≤ d ∧ d < 4) : rh_and (d + 3) 3 = (d + 3) % 4 ∧ rh_and (d + 1) 3 = (d + 1) % 4 := by
  have : d = 0 ∨ d = 1 ∨ d = 2 ∨ d = 3 := (by omega)
  rcases this with e | e | e | e <;> rw [e] <;> decide
theorem ahd {I : Int → Int → Prop} {u v d s x3 : Int} (hd : 0 ≤ d ∧ d < 4) (hs : s = 0 ∨ s = 1) (e : x3 = rh_if (s = 0) (rh_and (d + 3) 3) (rh_and (d + 1) 3)) : (0 ≤ x3 ∧ x3 < 4) ∧ rI (rh_tb 2 d + rh_tb 2 x3) ∧ rI (rh_tb 3 d + rh_tb 3 x3) ∧ (Qc I u v (if s = 0 then d + 3 else d) ↔ I (rh_if (0 < rh_tb 2 d + rh_tb 2 x3) u (u - 1)) (rh_if (0 < rh_tb 3 d + rh_tb 3 x3) v (v - 1))) := by
  have hd4 : d = 0 ∨ d = 1 ∨ d = 2 ∨ d = 3 := (by omega)
  rcases hs with h | h
  · rw [rh_if_t h] at e
    rw [if_pos h]
    rcases hd4 with q | q | q | q
    · rw [q] at e ⊢
      obtain rfl : x3 = 3 := e.trans (by decide)
      refine ⟨by decide, by decide, by decide, ?_⟩
      rw [Qc.r (by decide), rh_if_t (by decide), rh_if_f (by decide)]
    · rw [q] at e ⊢
      obtain rfl : x3 = 0 := e.trans (by decide)
      refine ⟨by decide, by decide, by decide, ?_⟩
      rw [Qc.z (by decide), rh_if_t (by decide), rh_if_t (by decide)]
    · rw [q] at e ⊢
      obtain rfl : x3 = 1 := e.trans (by decide)
      refine ⟨by decide, by decide, by decide, ?_⟩
      rw [Qc.o (by decide), rh_if_f (by decide), rh_if_t (by decide)]
    · rw [q] at e ⊢
      obtain rfl : x3 = 2 := e.trans (by decide)
      refine ⟨by decide, by decide, by decide, ?_⟩
      rw [Qc.t (by decide), rh_if_f (by decide), rh_if_f (by decide)]
  · rw [rh_if_f (by omega)] at e
    rw [if_neg (by omega)]
    rcases hd4 with q | q | q | q
    · rw [q] at e ⊢
      obtain rfl : x3 = 1 := e.trans (by decide)
      refine ⟨by decide, by decide, by decide, ?_⟩
      rw [Qc.z (by decide), rh_if_t (by decide), rh_if_t (by decide)]
    · rw [q] at e ⊢
      obtain rfl : x3 = 2 := e.trans (by decide)
      refine ⟨by decide, by decide, by decide, ?_⟩
      rw [Qc.o (by decide), rh_if_f (by decide), rh_if_t (by decide)]
    · rw [q] at e ⊢
      obtain rfl : x3 = 3 := e.trans (by decide)
      refine ⟨by decide, by decide, by decide, ?_⟩
      rw [Qc.t (by decide), rh_if_f (by decide), rh_if_f (by decide)]
    · rw [q] at e ⊢
      obtain rfl : x3 = 0 := e.trans (by decide)
      refine ⟨by decide, by decide, by decide, ?_⟩
      rw [Qc.r (by decide), rh_if_t (by decide), rh_if_f (by decide)]
/-- pixels of piece i: house, model -/
def pcH (M : rhM) (x W H i : Int) : Int → Int → Prop := fun u v => (0 ≤ u ∧ (u < W ∧ (0 ≤ v ∧ v < H))) ∧ M (x + 2) (W * v + u) = i
def pcM (M : rhM) (W H : Int) : Int → Int → Prop := fun u v => 0 ≤ u ∧ (0 ≤ v ∧ (u < W ∧ (v < H ∧ M 11 (v * W + u) ≠ 0)))
theorem c_isAhead (hh : rh_hs wh) {x i u v d s W H : Int} (hx : rh_bl wh 0 x 0) (M : rhM) (hW : M x 1 = W) (hH : M x 2 = H) (hWb : W ≤ 128) (hHb : H ≤ 96) (hN : W * H ≤ 6144) (hu : 0 ≤ u ∧ u ≤ 128) (hv : 0 ≤ v ∧ v ≤ 96) (hd : 0 ≤ d ∧ d < 4) (hs : s = 0 ∨ s = 1) :
    eC wh YX7_isAhead 2 [(2, x), (0, i), (0, u), (0, v), (0, d), (0, s)] M (rh_if (Qc (pcH M x W H i) u v (if s = 0 then d + 3 else d)) (1 : Int) 0) M := by
  refine eC.of1 (rC1.of (by decide) (LE0 rfl) ?_)
  refine rh1.of (rX7_isAhead_0 hh _ _ _ _ _ _ _ hx ?_)
  intro x3 e3
  obtain ⟨k1, k2, k3, k4⟩ := ahd (I := pcH M x W H i) (u := u) (v := v) hd hs e3
  rw [hW, hH]
  generalize ha : rh_if (0 < rh_tb 2 d + rh_tb 2 x3) u (u - 1) = a at *
  generalize hb : rh_if (0 < rh_tb 3 d + rh_tb 3 x3) v (v - 1) = b at *
  have ab1 : rI a := by rw [← ha, rh_ifd]; split <;> exact ⟨by omega, by omega⟩
  have ab2 : rI b := by rw [← hb, rh_ifd]; split <;> exact ⟨by omega, by omega⟩
  refine ⟨hd, k1, k2, hd, k1, k3, ab2, ab1, fun z => ?_, ?_, rfl⟩
  · have := ix_b z.1 z.2.1 z.2.2.1 z.2.2.2
    exact ⟨by omega, by omega⟩
  · by_cases y : pcH M x W H i a b
    · rw [rh_if_t (k4.mpr y)]; exact rh_if_t y
    · rw [rh_if_f (fun z => y (k4.mp z))]; exact rh_if_f y
theorem c_ahead (hm : rh_ms wm) {s W H : Int} (M : rhM) (hW : M 0 17 = W) (hH : M 0 18 = H) (hWb : W ≤ 128) (hHb : H ≤ 96) (hN : W * H ≤ 6144) (hu : 0 ≤ M 0 32 ∧ M 0 32 ≤ 128) (hv : 0 ≤ M 0 33 ∧ M 0 33 ≤ 96) (hd : 0 ≤ M 0 34 ∧ M 0 34 < 4) (hs : s = 0 ∨ s = 1) :
    eC wm YX32_ahead 1 [(2, 0), (0, s)] M (rh_if (Qc (pcM M W H) (M 0 32) (M 0 33) (if s = 0 then M 0 34 + 3 else M 0 34)) (1 : Int) 0) M := by
  refine eC.of1 (rC1.of (by decide) (LE0 rfl) ?_)
  refine rh1.of (rX32_ahead_0 hm _ _ ?_)
  rw [hW, hH]
  generalize M 0 32 = u at *
  generalize M 0 33 = v at *
  generalize M 0 34 = d at *
  intro b eb
  have hI : ∀ p q : Int, 0 ≤ p → 0 ≤ q → p < W → q < H → 0 ≤ q * W + p ∧ q * W + p < 6144 := fun p q a1 a2 a3 a4 => by
    have := ix_b a1 a3 a2 a4
    rw [Int.mul_comm]
    exact ⟨by omega, by omega⟩
  have fin : ∀ p q : Int, (Qc (pcM M W H) u v (if s = 0 then d + 3 else d) ↔ pcM M W H p q) → rh_if (0 ≤ p ∧ (0 ≤ q ∧ (p < W ∧ (q < H ∧ M 11 (q * W + p) ≠ 0)))) (1 : Int) 0 = rh_if (Qc (pcM M W H) u v (if s = 0 then d + 3 else d)) (1 : Int) 0 ∧ M = M := fun p q k => by
    refine ⟨?_, rfl⟩
    by_cases y : pcM M W H p q
    · rw [rh_if_t (k.mpr y)]; exact rh_if_t y
    · rw [rh_if_f (fun z => y (k.mp z))]; exact rh_if_f y
  rcases hs with h | h
  · have b0 : ¬ (b ≠ 0) := by rw [eb, rh_if_f (by omega)]; exact fun y => y rfl
    rw [rh_if_f b0, rh_if_f b0, rh_if_f b0, rh_if_f b0]
    rw [if_pos h] at fin ⊢
    refine ⟨fun z => ⟨⟨by omega, by omega⟩, hI _ _, fin _ _ (Qc.r (by omega))⟩, fun z => ⟨fun z => ⟨⟨by omega, by omega⟩, hI _ _, fin _ _ (Qc.z (by omega))⟩, fun z => ⟨fun z => ⟨⟨by omega, by omega⟩, ⟨by omega, by omega⟩, hI _ _, fin _ _ (Qc.o (by omega))⟩, fun z => ⟨⟨by omega, by omega⟩, ⟨by omega, by omega⟩, hI _ _, fin _ _ (Qc.t (by omega))⟩⟩⟩⟩
  · have b0 : b ≠ 0 := by rw [eb, rh_if_t h]; decide
    rw [rh_if_t b0, rh_if_t b0, rh_if_t b0, rh_if_t b0]
    rw [if_neg (by omega)] at fin ⊢
    refine ⟨fun z => ⟨⟨by omega, by omega⟩, hI _ _, fin _ _ (Qc.z (by omega))⟩, fun z => ⟨fun z => ⟨⟨by omega, by omega⟩, hI _ _, fin _ _ (Qc.o (by omega))⟩, fun z => ⟨fun z => ⟨⟨by omega, by omega⟩, ⟨by omega, by omega⟩, hI _ _, fin _ _ (Qc.t (by omega))⟩, fun z => ⟨⟨by omega, by omega⟩, ⟨by omega, by omega⟩, hI _ _, fin _ _ (Qc.r (by omega))⟩⟩⟩⟩
theorem c_alone (hm : rh_ms wm) {i W H : Int} (M : rhM) (hW : M 0 17 = W) (hH : M 0 18 = H) (hN0 : 0 ≤ W * H) (hN : W * H ≤ 6144) :
    rC1 wm YX32_alone 0 [(2, 0), (0, i)] M (fun r M' => r = 0 ∧ frx (fun a _ => a = 11) M M' ∧ ∀ k, 0 ≤ k → k < W * H → M' 11 k = if M 9 k = i then 1 else 0) := by
  refine rC1.of (by decide) (LE0 rfl) ?_
  refine rh1.of (rX32_alone_0 hm _ _ ?_)
  have key : ∀ (vq : Nat) (k : Int) (M' : rhM), (W * H - k).toNat = vq → (0 ≤ k) → (k ≤ W * H) → (frx (fun a _ => a = 11) M M') → (∀ j, 0 ≤ j → j < k → M' 11 j = if M 9 j = i then 1 else 0) → rh1 wm YX32_alone 0 2 [(0, 2, 0), (1, 0, i), (2, 0, k)] [] M' (fun r M' => r = 0 ∧ frx (fun a _ => a = 11) M M' ∧ ∀ k, 0 ≤ k → k < W * H → M' 11 k = if M 9 k = i then 1 else 0) := by
    intro vq
    induction vq using Nat.strongRecOn with
    | ind vq ih =>
      intro k M' hvq k0 k1 f hj
      refine rh1.of (rX32_alone_2 hm _ _ _ ?_)
      rw [f _ _ (by omega), hW, f _ _ (by omega), hH, f 9 _ (by omega)]
      refine ⟨⟨by omega, by omega⟩, fun c => ⟨⟨by omega, by omega⟩, fun b eb => ⟨⟨by omega, by omega⟩, b01 eb, ⟨by omega, by omega⟩, ih _ (by omega) (k + 1) _ rfl (by omega) (by omega) (f.st rfl) (fun j j0 j1 => ?_)⟩⟩, fun c => ⟨rfl, f, fun j j0 j1 => hj j j0 (by omega)⟩⟩
      by_cases q : j = k
      · rw [q, rh_set_s, eb, rh_ifd]
      · rw [rh_set_j q]; exact hj j j0 (by omega)
  exact key _ 0 M rfl (by omega) hN0 frx.rf (fun j j0 j1 => by omega)
/-- corners, and the heading asked for -/
def crn (g : Nat → w3) : Nat → Int
  | 0 => 0
  | m + 1 => crn g m + if (g (m + 1)).2.2 ≠ (g m).2.2 then (1 : Int) else 0
def askd (g : Nat → w3) (a : Int) : Nat → Int
  | 0 => -1
  | m + 1 => if (m : Int) = a then (g m).2.2 else askd g a m
theorem crn_b (g : Nat → w3) : ∀ m : Nat, 0 ≤ crn g m ∧ crn g m ≤ m
  | 0 => by simp [crn]
  | m + 1 => by
    have := crn_b g m
    simp only [crn]
    split <;> omega
theorem askd_cg {g : Nat → w3} {a b : Int} (h : ∀ m : Nat, (m : Int) = a ↔ (m : Int) = b) : ∀ m : Nat, askd g a m = askd g b m
  | 0 => rfl
  | m + 1 => by
    simp only [askd]
    rw [askd_cg h m]
    exact ite_congr (propext (h m)) (fun _ => rfl) (fun _ => rfl)
/-- a walk -/
def Wlk (I : Int → Int → Prop) (n : Nat) (g : Nat → w3) (s : w3) : Prop := (1 ≤ n ∧ n ≤ 60000) ∧ g 0 = s ∧ g n = s ∧ (∀ m, m < n → Wst I (g m) (g (m + 1))) ∧ (∀ m, m ≤ n → Wok I (g m)) ∧ (∀ m, 0 < m → m < n → g m ≠ s)
theorem Wok.b {I : Int → Int → Prop} {W H : Int} {s : w3} (hI : ∀ u v, I u v → (0 ≤ u ∧ u < W) ∧ (0 ≤ v ∧ v < H)) (hWb : W ≤ 128) (hHb : H ≤ 96) (h : Wok I s) : (0 ≤ s.1 ∧ s.1 ≤ 128) ∧ (0 ≤ s.2.1 ∧ s.2.1 ≤ 96) ∧ (0 ≤ s.2.2 ∧ s.2.2 < 4) := by
  obtain ⟨h0, h1, h2⟩ := h
  rcases h1 with ⟨e, h1⟩ | ⟨e, h1⟩ | ⟨e, h1⟩ | ⟨e, h1⟩ <;> have := hI _ _ h1 <;> omega
theorem c_go (hh : rh_hs wh) {x i a W H : Int} (hx : rh_bl wh 0 x 0) (hx2 : 100 ≤ x) (M : rhM) (hW : M x 1 = W) (hH : M x 2 = H) (hW0 : 0 < W) (hWb : W ≤ 128) (hHb : H ≤ 96) (hN : W * H ≤ 6144) (hi : 0 ≤ i ∧ i < 300) (hf0 : 0 ≤ M (x + 3) i) {n : Nat} {g : Nat → w3} (hw : Wlk (pcH M x W H i) n g (M (x + 3) i % W, M (x + 3) i / W, 0)) :
    rC1 wh YX7_go 3 [(2, 15), (2, x), (0, i), (0, a)] M (fun r M' => r = 0 ∧ frx (fun c _ => c = 15) M M' ∧ M' 15 0 = n ∧ M' 15 1 = crn g n ∧ M' 15 2 = askd g a n) := by
  refine rC1.of (by decide) (LE0 rfl) ?_
  refine rh1.of (rX7_go_0 hh _ _ _ _ hx ?_)
  rw [hW]
  refine ⟨hi, ⟨hf0, hW0⟩, fun u0 eu0 => ⟨hi, ⟨hf0, hW0⟩, fun v0 ev0 => ?_⟩⟩
  rw [← eu0, ← ev0] at hw
  obtain ⟨hn, g0, gn, gw, go, gx⟩ := hw
  replace gx := Hid.mk gx
  replace gw := Hid.mk gw
  have hI : ∀ u v, pcH M x W H i u v → (0 ≤ u ∧ u < W) ∧ (0 ≤ v ∧ v < H) := fun u v h => ⟨⟨h.1.1, h.1.2.1⟩, h.1.2.2⟩
  have gb : ∀ m, m ≤ n → (0 ≤ (g m).1 ∧ (g m).1 ≤ 128) ∧ (0 ≤ (g m).2.1 ∧ (g m).2.1 ≤ 96) ∧ (0 ≤ (g m).2.2 ∧ (g m).2.2 < 4) := fun m hm => (go m hm).b hI hWb hHb
  replace gb := Hid.mk gb
  clear go
  have key : ∀ (vq : Nat) (m : Nat) (M' : rhM), ((n : Int) - m).toNat = vq → (m < n) → (frx (fun c _ => c = 15) M M') → (M' 15 0 = m) → (M' 15 2 = askd g a m) → rh1 wh YX7_go 3 54 [(0, 2, 15), (1, 2, x), (2, 0, i), (3, 0, a), (4, 0, u0), (5, 0, v0), (6, 0, (g m).1), (7, 0, (g m).2.1), (8, 0, (g m).2.2), (9, 0, crn g m), (10, 0, 0)] [] M' (fun r M' => r = 0 ∧ frx (fun c _ => c = 15) M M' ∧ M' 15 0 = n ∧ M' 15 1 = crn g n ∧ M' 15 2 = askd g a n) := by
    intro vq
    induction vq using Nat.strongRecOn with
    | ind vq ih =>
      intro m M' hvq m1 f h0 h2
      obtain ⟨b1, b2, b3⟩ := gb.out m (by omega)
      obtain ⟨w1, w2, w4⟩ := gw.out m m1
      obtain ⟨c1, c2, c3⟩ := gb.out (m + 1) (by omega)
      have cb := crn_b g (m + 1)
      obtain ⟨an3, an1⟩ := and3 b3
      refine rh1.of (rX7_go_54 hh _ _ _ _ _ _ _ _ _ _ _ hx ?_)
      intro q eq l el
      rw [rh_set_j (by decide), h0] at el
      rw [← w1, ← w2]
      refine ⟨⟨by omega, by omega⟩, fun M2 e2 => ⟨b3, ⟨by omega, by omega⟩, b3, ⟨by omega, by omega⟩, ?_⟩⟩
      have f2 : frx (fun c _ => c = 15) M M2 := by rw [e2]; exact (f.st rfl).st rfl
      have k0 : M2 15 0 = ((m + 1 : Nat) : Int) := by rw [e2, rh_set_s, el]; rfl
      have k2 : M2 15 2 = askd g a (m + 1) := by
        rw [e2, rh_set_j (by decide), rh_set_s, eq, h0, h2, rh_ifd]; rfl
      have hW2 : M2 x 1 = W := by rw [f2 _ _ (by omega), hW]
      have hH2 : M2 x 2 = H := by rw [f2 _ _ (by omega), hH]
      have hp2 : pcH M2 x W H i = pcH M x W H i := by
        unfold pcH; rw [f2.cell (a := x + 2) (fun j => (by omega))]
      -- after the turn
      have fin : ∀ d c : Int, d = (g (m + 1)).2.2 → c = crn g m + rh_if (d ≠ (g m).2.2) (1 : Int) 0 → rI c ∧ (((g (m + 1)).1 ≠ u0 → rh1 wh YX7_go 3 54 [(0, 2, 15), (1, 2, x), (2, 0, i), (3, 0, a), (4, 0, u0), (5, 0, v0), (6, 0, (g (m + 1)).1), (7, 0, (g (m + 1)).2.1), (8, 0, d), (9, 0, c), (10, 0, 0)] [] M2 (fun r M' => r = 0 ∧ frx (fun c _ => c = 15) M M' ∧ M' 15 0 = n ∧ M' 15 1 = crn g n ∧ M' 15 2 = askd g a n)) ∧ (¬ (g (m + 1)).1 ≠ u0 → ((g (m + 1)).2.1 ≠ v0 → rh1 wh YX7_go 3 54 [(0, 2, 15), (1, 2, x), (2, 0, i), (3, 0, a), (4, 0, u0), (5, 0, v0), (6, 0, (g (m + 1)).1), (7, 0, (g (m + 1)).2.1), (8, 0, d), (9, 0, c), (10, 0, 0)] [] M2 (fun r M' => r = 0 ∧ frx (fun c _ => c = 15) M M' ∧ M' 15 0 = n ∧ M' 15 1 = crn g n ∧ M' 15 2 = askd g a n)) ∧ (¬ (g (m + 1)).2.1 ≠ v0 → (d ≠ 0 → rh1 wh YX7_go 3 54 [(0, 2, 15), (1, 2, x), (2, 0, i), (3, 0, a), (4, 0, u0), (5, 0, v0), (6, 0, (g (m + 1)).1), (7, 0, (g (m + 1)).2.1), (8, 0, d), (9, 0, c), (10, 0, 0)] [] M2 (fun r M' => r = 0 ∧ frx (fun c _ => c = 15) M M' ∧ M' 15 0 = n ∧ M' 15 1 = crn g n ∧ M' 15 2 = askd g a n)) ∧ (¬ d ≠ 0 → (fun r M' => r = 0 ∧ frx (fun c _ => c = 15) M M' ∧ M' 15 0 = n ∧ M' 15 1 = crn g n ∧ M' 15 2 = askd g a n) (0 : Int) (rh_set M2 15 1 c))))) := by
        intro d c ed ec
        have ec2 : c = crn g (m + 1) := by rw [ec, ed, rh_ifd]; rfl
        have go : (¬ ((g (m + 1)).1 = u0 ∧ (g (m + 1)).2.1 = v0 ∧ (g (m + 1)).2.2 = 0)) → rh1 wh YX7_go 3 54 [(0, 2, 15), (1, 2, x), (2, 0, i), (3, 0, a), (4, 0, u0), (5, 0, v0), (6, 0, (g (m + 1)).1), (7, 0, (g (m + 1)).2.1), (8, 0, d), (9, 0, c), (10, 0, 0)] [] M2 (fun r M' => r = 0 ∧ frx (fun c _ => c = 15) M M' ∧ M' 15 0 = n ∧ M' 15 1 = crn g n ∧ M' 15 2 = askd g a n) := fun hne => by
          have hmn : m + 1 ≠ n := fun e => hne (by rw [e, gn]; exact ⟨rfl, rfl, rfl⟩)
          have := ih _ (by omega) (m + 1) M2 rfl (by omega) f2 k0 k2
          rw [ec2, ed]
          exact this
        refine ⟨by rw [ec2]; exact ⟨by omega, by omega⟩, fun y => go (fun z => y z.1), fun _ => ⟨fun y => go (fun z => y z.2.1), fun y2 => ⟨fun y => go (fun z => y (ed.trans z.2.2)), fun y3 => ?_⟩⟩⟩
        rename_i y1
        have hs : g (m + 1) = (u0, v0, 0) := Prod.ext (Classical.not_not.mp y1) (Prod.ext (Classical.not_not.mp y2) (ed.symm.trans (Classical.not_not.mp y3)))
        have hmn : m + 1 = n := by
          by_cases e : m + 1 = n
          · exact e
          · exact absurd hs (gx.out (m + 1) (by omega) (by omega))
        refine ⟨rfl, f2.st rfl, ?_, ?_, ?_⟩
        · rw [rh_set_j (by decide), k0, hmn]
        · rw [rh_set_s, ec2, hmn]
        · rw [rh_set_j (by decide), k2, hmn]
      have E1 := c_isAhead hh (i := i) (u := (g (m + 1)).1) (v := (g (m + 1)).2.1) (d := (g m).2.2) (s := 0) hx M2 hW2 hH2 hWb hHb hN c1 c2 b3 (.inl rfl)
      rw [hp2, if_pos rfl] at E1
      refine rh1.s (vX7_go_116 E1 (LE0 rfl)) ?_
      refine rh1.of (rX7_go_119 hh _ _ _ _ _ _ _ _ _ _ _ _ hx ?_)
      refine ⟨fun y => ?_, fun y => ?_⟩
      · intro d ed c ec
        have yl : Qc (pcH M x W H i) (g (m + 1)).1 (g (m + 1)).2.1 ((g m).2.2 + 3) := by
          by_cases w : Qc (pcH M x W H i) (g (m + 1)).1 (g (m + 1)).2.1 ((g m).2.2 + 3)
          · exact w
          · rw [rh_if_f w] at y; exact absurd rfl y
        refine fin d c ?_ ec
        rw [ed, an3]
        rcases w4 with ⟨_, w⟩ | ⟨w, _⟩ | ⟨w, _⟩
        · exact w.symm
        · exact absurd yl w
        · exact absurd yl w
      · have yl : ¬ Qc (pcH M x W H i) (g (m + 1)).1 (g (m + 1)).2.1 ((g m).2.2 + 3) := fun w => y (by rw [rh_if_t w]; decide)
        have E2 := c_isAhead hh (i := i) (u := (g (m + 1)).1) (v := (g (m + 1)).2.1) (d := (g m).2.2) (s := 1) hx M2 hW2 hH2 hWb hHb hN c1 c2 b3 (.inr rfl)
        rw [hp2, if_neg (by decide)] at E2
        refine rh1.s (vX7_go_140 E2 (LE0 rfl)) ?_
        refine rh1.of (rX7_go_143 hh _ _ _ _ _ _ _ _ _ _ _ _ hx ?_)
        intro d ed c ec
        refine fin d c ?_ ec
        rw [ed, an1]
        rcases w4 with ⟨w, _⟩ | ⟨_, w, w5⟩ | ⟨_, w, w5⟩
        · exact absurd w yl
        · rw [rh_if_t (show rh_if (Qc (pcH M x W H i) (g (m + 1)).1 (g (m + 1)).2.1 (g m).2.2) (1 : Int) 0 ≠ 0 by rw [rh_if_t w]; decide), w5]
        · rw [rh_if_f (show ¬ (rh_if (Qc (pcH M x W H i) (g (m + 1)).1 (g (m + 1)).2.1 (g m).2.2) (1 : Int) 0 ≠ 0) by rw [rh_if_f w]; exact fun z => z rfl), w5]
  have F : frx (fun c _ => c = (15 : Int)) M M := frx.rf
  have := key _ 0 (rh_set (rh_set M 15 0 0) 15 2 (-1)) rfl (by omega) ((F.st rfl).st rfl) (by simp [rh_sets]) (by simp [rh_sets, askd])
  rw [g0] at this
  exact this
end WalkC
