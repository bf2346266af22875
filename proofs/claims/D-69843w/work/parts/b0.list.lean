/-! ===== LAYER 2: words: rows, the list, near ones, pairs, confusions ===== -/
section Listed
variable {wh wm : rhW}
theorem by_e {x : Int} (h : -128 ≤ x ∧ x ≤ 127) : rh_and x 255 = if x < 0 then x + 256 else x := by
  have h1 : (List.range 256).all (fun v => decide (rh_and (((v : Nat) : Int) - 128) 255 = if ((v : Nat) : Int) - 128 < 0 then ((v : Nat) : Int) - 128 + 256 else ((v : Nat) : Int) - 128)) = true := by decide +kernel
  have h2 := of_decide_eq_true (List.all_eq_true.mp h1 (x + 128).toNat (List.mem_range.mpr (by omega)))
  rw [show ((x + 128).toNat : Int) - 128 = x by omega] at h2
  exact h2
theorem by_p {x c : Int} (h : -128 ≤ x ∧ x ≤ 127) (hc : 0 ≤ c ∧ c ≤ 127) : rh_and x 255 = c ↔ x = c := by
  rw [by_e h]
  split <;> omega
theorem i2b_e {v : Int} (h : 0 ≤ v ∧ v ≤ 127) : rh_i2b v = v := by
  have h1 := rh_i2b_rg v
  exact (by_p h1 h).mp (b255 h.1 (by omega))
/-- lists, near words, pairs, confusions on both sides -/
def Rwl (Mh Mm : rhM) : Prop := Mh 63 1 = Mm 0 120 ∧ (0 ≤ Mm 0 120 ∧ Mm 0 120 ≤ 150) ∧ ∀ w, 0 ≤ w → w < Mm 0 120 → Mh 66 w = Mm 89 w ∧ (1 ≤ Mm 89 w ∧ Mm 89 w ≤ 12) ∧ ∀ k, 0 ≤ k → k < Mm 89 w → Mh 65 (12 * w + k) = Mm 88 (12 * w + k) ∧ 33 ≤ Mm 88 (12 * w + k) ∧ Mm 88 (12 * w + k) ≤ 126
def Rnr (Mh Mm : rhM) : Prop := Mh 63 15 = Mm 0 132 ∧ (0 ≤ Mm 0 132 ∧ Mm 0 132 ≤ 150) ∧ ∀ i, 0 ≤ i → i < Mm 0 132 → Mh 77 i = Mm 97 i
def Rpp (Mh Mm : rhM) : Prop := (∀ a, 0 ≤ a → a < 95 → Mh 80 a = Mm 99 a ∧ 0 ≤ Mm 99 a ∧ Mm 99 a ≤ 1000000) ∧ ∀ a b, 0 ≤ a → a < 95 → 0 ≤ b → b < 95 → Mh 79 (95 * a + b) = Mm 98 (95 * a + b) ∧ 0 ≤ Mm 98 (95 * a + b) ∧ Mm 98 (95 * a + b) ≤ Mm 99 a
def Rcf (Mh Mm : rhM) : Prop := ∀ j, 0 ≤ j → j < 9216 → Mh 247 j = Mm 144 j
theorem op_nearAt (hh : rh_hs wh) (hm : rh_ms wm) {Mh Mm : rhM} (R : Rnr Mh Mm) (x1 : Int) : rC2 wh YX1_nearAt 1 [(2, 0), (0, x1)] Mh wm YX32_nearAt 1 [(2, 0), (0, x1)] Mm (fun r M' r2 M2' => r = r2 ∧ M' = Mh ∧ M2' = rh_set Mm 0 0 0) := by
  obtain ⟨a1, a2, a4⟩ := R
  have e4 : rh_set Mm 0 0 0 0 132 = Mm 0 132 := rh_set_j (by decide)
  have e2 : ∀ k, rh_set Mm 0 0 0 97 k = Mm 97 k := fun k => rh_set_a (by decide)
  refine ⟨_, _, _, _, (icX1_nearAt hh).eC [0, x1] Mh rfl (fun q hq => by cases hq) ?_, (icX32_nearAt hm).eC [0, x1] Mm rfl (fun q hq => by cases hq) ?_, ?_, rfl, rfl⟩
  · have h1 : rI (Mh 63 15 - 1) := ⟨by omega, by omega⟩
    have h2 : ((0 ≤ x1) ∧ (x1 ≤ Mh 63 15 - 1)) → ((0 ≤ x1) ∧ (x1 < 150)) := by omega
    intro o ho
    simp only [ioX1_nearAt, List.mem_cons, List.not_mem_nil, or_false] at ho
    rcases ho with rfl | rfl | rfl
    · exact (rfl : (0 : Int) = 0)
    · exact h1
    · exact h2
  · have h1 : rI (rh_set Mm 0 0 0 0 132 - 1) := by rw [e4]; exact ⟨by omega, by omega⟩
    have h2 : ((0 ≤ x1) ∧ (x1 ≤ rh_set Mm 0 0 0 0 132 - 1)) → ((0 ≤ x1) ∧ (x1 < 150)) := by rw [e4]; omega
    intro o ho
    simp only [ioX32_nearAt, List.mem_cons, List.not_mem_nil, or_false] at ho
    rcases ho with rfl | rfl | rfl
    · exact (rfl : (0 : Int) = 0)
    · exact h1
    · exact h2
  · show rh_if ((0 ≤ x1) ∧ (x1 ≤ Mh 63 15 - 1)) (Mh 77 x1) (-1) = rh_if ((0 ≤ x1) ∧ (x1 ≤ rh_set Mm 0 0 0 0 132 - 1)) (rh_set Mm 0 0 0 97 x1) (-1)
    rw [e4, e2, a1]
    by_cases z : (0 ≤ x1) ∧ (x1 ≤ Mm 0 132 - 1)
    · rw [rh_if_t z, rh_if_t z, a4 x1 z.1 (by omega)]
    · rw [rh_if_f z, rh_if_f z]
theorem cf_e (x : Int) : rh_if (x = 0) (0 : Int) (rh_if (x = 32) (1 : Int) ((x - 33) + 2)) = rh_if (x = 0) (0 : Int) (x - 31) := by
  by_cases h : x = 0
  · rw [rh_if_t h, rh_if_t h]
  · rw [rh_if_f h, rh_if_f h]
    by_cases h2 : x = 32
    · rw [rh_if_t h2]; omega
    · rw [rh_if_f h2]; omega
theorem cf_b {x : Int} (h : x = 0 ∨ (x = 32 ∨ (33 ≤ x ∧ x ≤ 126))) : 0 ≤ rh_if (x = 0) (0 : Int) (x - 31) ∧ rh_if (x = 0) (0 : Int) (x - 31) ≤ 95 := by
  by_cases h1 : x = 0
  · rw [rh_if_t h1]; omega
  · rw [rh_if_f h1]; omega
theorem op_confusion (hh : rh_hs wh) (hm : rh_ms wm) {Mh Mm : rhM} (R : Rcf Mh Mm) (x1 x2 : Int) : rC2 wh YX1_confusion 3 [(2, 0), (0, x1), (0, x2)] Mh wm YX32_confusion 2 [(2, 0), (0, x1), (0, x2)] Mm (fun r M' r2 M2' => r = r2 ∧ M' = Mh ∧ M2' = rh_set Mm 0 0 0) := by
  refine rC2.of (by decide) (LE0 rfl) (by decide) (LE0 rfl) ?_
  refine rh2.l (rX1_confusion_0 hh _ _ _ ?_)
  rw [cf_e x1, cf_e x2]
  refine ⟨fun c => ?_, fun c => ?_, fun c => ?_, ?_⟩
  · have := cf_b c.1; exact ⟨by omega, by omega⟩
  · have := cf_b c.2; exact ⟨by omega, by omega⟩
  · have := cf_b c.1; have := cf_b c.2; exact ⟨by omega, by omega⟩
  refine rh1.of (rX32_confusion_0 hm _ _ _ ?_)
  refine ⟨fun c => ?_, fun c => ?_, fun c => ?_, ?_, rfl, rfl⟩
  · have := cf_b c.1; exact ⟨by omega, by omega⟩
  · have := cf_b c.2; exact ⟨by omega, by omega⟩
  · have := cf_b c.1; have := cf_b c.2; exact ⟨by omega, by omega⟩
  by_cases c : ((x1 = 0) ∨ ((x1 = 32) ∨ ((33 ≤ x1) ∧ (x1 ≤ 126)))) ∧ ((x2 = 0) ∨ ((x2 = 32) ∨ ((33 ≤ x2) ∧ (x2 ≤ 126))))
  · have := cf_b c.1
    have := cf_b c.2
    rw [rh_if_t c, rh_if_t c, rh_set_a (by decide)]
    exact R _ (by omega) (by omega)
  · rw [rh_if_f c, rh_if_f c]
/-- shifts and prices -/
theorem lsh20 {x : Int} (h : 1 ≤ x ∧ x ≤ 2000000) : 1048576 ≤ rh_lshl x 20 := by
  have e : (rhI 20).toInt64 &&& 63 = 20 := by decide
  unfold rh_lshl
  rw [e]
  have e2 : (rhJ x <<< (20 : Int64)).toInt = x * 1048576 := by
    have h3 : (rhJ x).toBitVec.toNat = x.toNat := by
      show (BitVec.ofInt 64 x).toNat = x.toNat
      rw [BitVec.toNat_ofInt]
      omega
    have h4 : (rhJ x <<< (20 : Int64)).toBitVec = (rhJ x).toBitVec <<< 20 := by
      rw [Int64.toBitVec_shiftLeft]
      rfl
    have h5 : ((rhJ x).toBitVec <<< 20).toNat = x.toNat * 1048576 := by
      rw [BitVec.toNat_shiftLeft, h3, Nat.shiftLeft_eq]
      omega
    show (rhJ x <<< (20 : Int64)).toBitVec.toInt = x * 1048576
    rw [h4, BitVec.toInt_eq_toNat_of_lt (by rw [h5]; omega), h5]
    omega
  rw [e2]
  omega
noncomputable def prf (l a : Int) : Nat → Int → Int
  | 0, k => k
  | n + 1, k => rh_if (rh_lshl l k < a) (prf l a n (k + 1)) k
theorem prf_b {l a : Int} : ∀ (n : Nat) (k : Int), k ≤ prf l a n k ∧ prf l a n k ≤ k + n
  | 0, k => by simp only [prf]; omega
  | n + 1, k => by
    have := prf_b (l := l) (a := a) n (k + 1)
    simp only [prf]
    by_cases q : rh_lshl l k < a
    · rw [rh_if_t q]; omega
    · rw [rh_if_f q]; omega
noncomputable def six (c : Int) : Int := rh_if (c = 0) (0 : Int) (c - 32)
noncomputable def prc (P T : Int → Int) (a b : Int) : Int := prf (P (95 * six a + six b) + 1) (T (six a) + 95) 20 0
theorem six_b {c : Int} (h : c = 0 ∨ (33 ≤ c ∧ c ≤ 126)) : 0 ≤ six c ∧ six c < 95 := by
  unfold six
  by_cases q : c = 0
  · rw [rh_if_t q]; omega
  · rw [rh_if_f q]; omega
theorem six_e (c : Int) : rh_if (c = 0) (0 : Int) ((c - 33) + 1) = six c := by
  unfold six
  rw [show c - 33 + 1 = c - 32 by omega]
theorem c_priceH (hh : rh_hs wh) {x1 x2 : Int} (h1 : x1 = 0 ∨ (33 ≤ x1 ∧ x1 ≤ 126)) (h2 : x2 = 0 ∨ (33 ≤ x2 ∧ x2 ≤ 126)) (M : rhM) (hT : ∀ a, 0 ≤ a → a < 95 → 0 ≤ M 80 a ∧ M 80 a ≤ 1000000) (hP : ∀ a b, 0 ≤ a → a < 95 → 0 ≤ b → b < 95 → 0 ≤ M 79 (95 * a + b) ∧ M 79 (95 * a + b) ≤ 1000000) : eC wh YX18_price 1 [(2, 63), (0, x1), (0, x2)] M (prc (M 79) (M 80) x1 x2) M := by
  have b1 := six_b h1
  have b2 := six_b h2
  have p1 := hP (six x1) (six x2) (by omega) (by omega) (by omega) (by omega)
  have t1 := hT (six x1) (by omega) (by omega)
  refine eC.of1 (rC1.of (by decide) (LE0 rfl) ?_)
  refine rh1.of (rX18_price_0 hh _ _ _ ?_)
  rw [six_e x1, six_e x2]
  refine ⟨⟨by omega, by omega⟩, ⟨by omega, by omega⟩, ⟨by omega, by omega⟩, ?_⟩
  intro l hl
  refine ⟨⟨by omega, by omega⟩, ⟨by omega, by omega⟩, ⟨by omega, by omega⟩, ?_⟩
  intro a ha
  refine ⟨⟨by omega, by omega⟩, ?_⟩
  have ls := lsh20 (x := l) ⟨by omega, by omega⟩
  have w : ∀ (n : Nat) (k : Int), k + n = 20 → 0 ≤ k → rh1 wh YX18_price 1 40 [(3, 1, l), (5, 1, a), (7, 0, k)] [] M (fun r M' => r = prf l a n k ∧ M' = M) := by
    intro n
    induction n with
    | zero =>
      intro k hk k0
      have e : k = 20 := (by omega)
      rw [e]
      refine rh1.of (rX18_price_40 hh _ _ _ _ ?_)
      exact ⟨fun y => by omega, fun _ => ⟨rfl, rfl⟩⟩
    | succ n ih =>
      intro k hk k0
      refine rh1.of (rX18_price_40 hh _ _ _ _ ?_)
      refine ⟨fun y => ⟨⟨by omega, by omega⟩, ?_⟩, fun y => ⟨by simp only [prf]; rw [rh_if_f y], rfl⟩⟩
      have e : prf l a (n + 1) k = prf l a n (k + 1) := by simp only [prf]; rw [rh_if_t y]
      rw [e]
      exact ih (k + 1) (by omega) (by omega)
  have z := w 20 0 (by omega) (by omega)
  rw [hl, ha] at z
  rw [hl, ha]
  exact z
theorem c_priceM (hm : rh_ms wm) {x1 x2 : Int} (h1 : x1 = 0 ∨ (33 ≤ x1 ∧ x1 ≤ 126)) (h2 : x2 = 0 ∨ (33 ≤ x2 ∧ x2 ≤ 126)) (M : rhM) (hT : ∀ a, 0 ≤ a → a < 95 → 0 ≤ M 99 a ∧ M 99 a ≤ 1000000) (hP : ∀ a b, 0 ≤ a → a < 95 → 0 ≤ b → b < 95 → 0 ≤ M 98 (95 * a + b) ∧ M 98 (95 * a + b) ≤ 1000000) : eC wm YX32_priceOf 1 [(2, 0), (0, x1), (0, x2)] M (prc (M 98) (M 99) x1 x2) M := by
  have b1 := six_b h1
  have b2 := six_b h2
  have p1 := hP (six x1) (six x2) (by omega) (by omega) (by omega) (by omega)
  have t1 := hT (six x1) (by omega) (by omega)
  refine eC.of1 (rC1.of (by decide) (LE0 rfl) ?_)
  refine rh1.of (rX32_priceOf_0 hm _ _ _ ?_)
  rw [show rh_if (x1 = 0) (0 : Int) (x1 - 32) = six x1 from rfl, show rh_if (x2 = 0) (0 : Int) (x2 - 32) = six x2 from rfl]
  refine ⟨⟨by omega, by omega⟩, ⟨by omega, by omega⟩, ⟨by omega, by omega⟩, ?_⟩
  intro l hl
  refine ⟨⟨by omega, by omega⟩, ⟨by omega, by omega⟩, ⟨by omega, by omega⟩, ?_⟩
  intro a ha
  refine ⟨⟨by omega, by omega⟩, ?_⟩
  have ls := lsh20 (x := l) ⟨by omega, by omega⟩
  have w : ∀ (n : Nat) (k : Int), k + n = 20 → 0 ≤ k → rh1 wm YX32_priceOf 1 40 [(3, 1, l), (5, 1, a), (7, 0, k)] [] M (fun r M' => r = prf l a n k ∧ M' = M) := by
    intro n
    induction n with
    | zero =>
      intro k hk k0
      have e : k = 20 := (by omega)
      rw [e]
      refine rh1.of (rX32_priceOf_40 hm _ _ _ _ ?_)
      exact ⟨fun y => by omega, fun _ => ⟨rfl, rfl⟩⟩
    | succ n ih =>
      intro k hk k0
      refine rh1.of (rX32_priceOf_40 hm _ _ _ _ ?_)
      refine ⟨fun y => ⟨⟨by omega, by omega⟩, ?_⟩, fun y => ⟨by simp only [prf]; rw [rh_if_f y], rfl⟩⟩
      have e : prf l a (n + 1) k = prf l a n (k + 1) := by simp only [prf]; rw [rh_if_t y]
      rw [e]
      exact ih (k + 1) (by omega) (by omega)
  have z := w 20 0 (by omega) (by omega)
  rw [hl, ha] at z
  rw [hl, ha]
  exact z
theorem Rpp.pr {Mh Mm : rhM} (R : Rpp Mh Mm) {x1 x2 : Int} (h1 : x1 = 0 ∨ (33 ≤ x1 ∧ x1 ≤ 126)) (h2 : x2 = 0 ∨ (33 ≤ x2 ∧ x2 ≤ 126)) : prc (Mh 79) (Mh 80) x1 x2 = prc (Mm 98) (Mm 99) x1 x2 := by
  have b1 := six_b h1
  have b2 := six_b h2
  unfold prc
  rw [(R.2 (six x1) (six x2) (by omega) (by omega) (by omega) (by omega)).1, (R.1 (six x1) (by omega) (by omega)).1]
theorem Rpp.kh (hh : rh_hs wh) {Mh Mm : rhM} (R : Rpp Mh Mm) {x1 x2 : Int} (h1 : x1 = 0 ∨ (33 ≤ x1 ∧ x1 ≤ 126)) (h2 : x2 = 0 ∨ (33 ≤ x2 ∧ x2 ≤ 126)) : eC wh YX18_price 1 [(2, 63), (0, x1), (0, x2)] Mh (prc (Mm 98) (Mm 99) x1 x2) Mh := by
  rw [← R.pr h1 h2]
  refine c_priceH hh h1 h2 Mh (fun a a0 a1 => ?_) (fun a b a0 a1 b0 b1 => ?_)
  · have := R.1 a a0 a1; omega
  · have := R.1 a a0 a1; have := R.2 a b a0 a1 b0 b1; omega
theorem Rpp.km (hm : rh_ms wm) {Mh Mm : rhM} (R : Rpp Mh Mm) {x1 x2 : Int} (h1 : x1 = 0 ∨ (33 ≤ x1 ∧ x1 ≤ 126)) (h2 : x2 = 0 ∨ (33 ≤ x2 ∧ x2 ≤ 126)) : eC wm YX32_priceOf 1 [(2, 0), (0, x1), (0, x2)] Mm (prc (Mm 98) (Mm 99) x1 x2) Mm := by
  refine c_priceM hm h1 h2 Mm (fun a a0 a1 => ?_) (fun a b a0 a1 b0 b1 => ?_)
  · have := R.1 a a0 a1; omega
  · have := R.1 a a0 a1; have := R.2 a b a0 a1 b0 b1; omega
theorem Rpp.fx {Mh Mm Mh' Mm' : rhM} (R : Rpp Mh Mm) (h1 : Mh' 79 = Mh 79) (h2 : Mh' 80 = Mh 80) (g1 : Mm' 98 = Mm 98) (g2 : Mm' 99 = Mm 99) : Rpp Mh' Mm' := by
  unfold Rpp
  rw [h1, h2, g1, g2]
  exact R
theorem op_price (hh : rh_hs wh) (hm : rh_ms wm) {Mh Mm : rhM} (R : Rpp Mh Mm) (x1 x2 : Int) : rC2 wh YX1_price 2 [(2, 0), (0, x1), (0, x2)] Mh wm YX32_price 2 [(2, 0), (0, x1), (0, x2)] Mm (fun r M' r2 M2' => r = r2 ∧ M' = Mh ∧ M2' = rh_set Mm 0 0 0) := by
  refine rC2.of (by decide) (LE0 rfl) (by decide) (LE0 rfl) ?_
  have R' : Rpp Mh (rh_set Mm 0 0 0) := R.fx rfl rfl (rh_set_n (by decide)) (rh_set_n (by decide))
  refine rh2.l (rX1_price_0 hh _ _ _ ?_)
  refine ⟨fun c => ⟨fun d => ?_, fun d => ?_⟩, fun c => ?_⟩
  · refine rh2.sl (vX1_price_28 hh (R'.kh hh c d) (LE0 rfl)) ?_
    refine rh2.l (rX1_price_31 hh _ _ ?_)
    refine rh1.of (rX32_price_0 hm _ _ _ ?_)
    intro x hx
    rw [rh_if_t c, rh_if_t d] at hx
    refine ⟨fun _ => ?_, fun y => by omega⟩
    refine rh1.s (vX32_price_40 hm (R'.km hm c d) (LE0 rfl)) ?_
    refine rh1.of (rX32_price_43 hm _ _ ?_)
    exact ⟨rfl, rfl, rfl⟩
  · refine rh1.of (rX32_price_0 hm _ _ _ ?_)
    intro x hx
    rw [rh_if_t c, rh_if_f d] at hx
    exact ⟨fun y => absurd hx y, fun _ => ⟨rfl, rfl, rfl⟩⟩
  · refine rh1.of (rX32_price_0 hm _ _ _ ?_)
    intro x hx
    rw [rh_if_f c] at hx
    exact ⟨fun y => absurd hx y, fun _ => ⟨rfl, rfl, rfl⟩⟩
end Listed
