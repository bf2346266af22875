/-! ===== LAYER 2: bars in a row: runs, digits, codes ===== -/
section BarsAt
variable {wh wm : rhW}
theorem tb6 {d : Int} (d0 : 0 ≤ d) (d1 : d < 10) : (rh_if (d = 0) (6 : Int) (rh_if (d = 1) (17 : Int) (rh_if (d = 2) (9 : Int) (rh_if (d = 3) (24 : Int) (rh_if (d = 4) (5 : Int) (rh_if (d = 5) (20 : Int) (rh_if (d = 6) (12 : Int) (rh_if (d = 7) (3 : Int) (rh_if (d = 8) (18 : Int) 10))))))))) = rh_tb 6 d := by
  rcases (by omega : d = 0 ∨ d = 1 ∨ d = 2 ∨ d = 3 ∨ d = 4 ∨ d = 5 ∨ d = 6 ∨ d = 7 ∨ d = 8 ∨ d = 9) with rfl | rfl | rfl | rfl | rfl | rfl | rfl | rfl | rfl | rfl
  · rw [rh_if_t rfl]; decide +kernel
  · rw [rh_if_f (by decide), rh_if_t rfl]; decide +kernel
  · rw [rh_if_f (by decide), rh_if_f (by decide), rh_if_t rfl]; decide +kernel
  · rw [rh_if_f (by decide), rh_if_f (by decide), rh_if_f (by decide), rh_if_t rfl]; decide +kernel
  · rw [rh_if_f (by decide), rh_if_f (by decide), rh_if_f (by decide), rh_if_f (by decide), rh_if_t rfl]; decide +kernel
  · rw [rh_if_f (by decide), rh_if_f (by decide), rh_if_f (by decide), rh_if_f (by decide), rh_if_f (by decide), rh_if_t rfl]; decide +kernel
  · rw [rh_if_f (by decide), rh_if_f (by decide), rh_if_f (by decide), rh_if_f (by decide), rh_if_f (by decide), rh_if_f (by decide), rh_if_t rfl]; decide +kernel
  · rw [rh_if_f (by decide), rh_if_f (by decide), rh_if_f (by decide), rh_if_f (by decide), rh_if_f (by decide), rh_if_f (by decide), rh_if_f (by decide), rh_if_t rfl]; decide +kernel
  · rw [rh_if_f (by decide), rh_if_f (by decide), rh_if_f (by decide), rh_if_f (by decide), rh_if_f (by decide), rh_if_f (by decide), rh_if_f (by decide), rh_if_f (by decide), rh_if_t rfl]; decide +kernel
  · rw [rh_if_f (by decide), rh_if_f (by decide), rh_if_f (by decide), rh_if_f (by decide), rh_if_f (by decide), rh_if_f (by decide), rh_if_f (by decide), rh_if_f (by decide), rh_if_f (by decide)]; decide +kernel
theorem if01 (p : Prop) : rh_if p (1 : Int) 0 = 0 ∨ rh_if p (1 : Int) 0 = 1 := by
  by_cases q : p
  · exact .inr (rh_if_t q)
  · exact .inl (rh_if_f q)
theorem or_b1 {x b : Int} (hx : 0 ≤ x ∧ x < 16) (hb : b = 0 ∨ b = 1) : rh_or (rh_shl x 1) b = 2 * x + b := by
  have h1 : (List.range 16).all (fun v => decide (rh_or (rh_shl ((v : Nat) : Int) 1) 0 = 2 * ((v : Nat) : Int) + 0 ∧ rh_or (rh_shl ((v : Nat) : Int) 1) 1 = 2 * ((v : Nat) : Int) + 1)) = true := by decide +kernel
  have h2 := of_decide_eq_true (List.all_eq_true.mp h1 x.toNat (List.mem_range.mpr (by omega)))
  rw [show ((x.toNat : Nat) : Int) = x by omega] at h2
  rcases hb with rfl | rfl
  · exact h2.1
  · exact h2.2
theorem and_if {p q : Prop} : rh_and (rh_if p 1 0) (rh_if q 1 0) = rh_if (p ∧ q) 1 0 := by
  by_cases a : p
  · by_cases b : q
    · rw [rh_if_t a, rh_if_t b, rh_if_t ⟨a, b⟩]; decide +kernel
    · rw [rh_if_t a, rh_if_f b, rh_if_f (fun z => b z.2)]; decide +kernel
  · by_cases b : q
    · rw [rh_if_f a, rh_if_t b, rh_if_f (fun z => a z.1)]; decide +kernel
    · rw [rh_if_f a, rh_if_f b, rh_if_f (fun z => a z.1)]; decide +kernel
/-- five runs as bits; the digit -/
noncomputable def bvs (g : Int → Int) (w : Int) : Nat → Int
  | 0 => 0
  | k + 1 => 2 * bvs g w k + rh_if (w ≤ g k) 1 0
theorem bvs_b {g : Int → Int} {w : Int} : ∀ k : Nat, 0 ≤ bvs g w k ∧ bvs g w k < 2 ^ k
  | 0 => ⟨Int.le_refl _, by show (0 : Int) < 2 ^ 0; decide⟩
  | k + 1 => by
    have r := bvs_b (g := g) (w := w) k
    have i := if01 (w ≤ g k)
    show 0 ≤ 2 * bvs g w k + rh_if (w ≤ g k) 1 0 ∧ 2 * bvs g w k + rh_if (w ≤ g k) 1 0 < 2 ^ (k + 1)
    rw [Int.pow_succ]
    omega
theorem p24 {k : Nat} (h : k < 5) : (2 : Int) ^ k ≤ 16 := by
  rcases (by omega : k = 0 ∨ k = 1 ∨ k = 2 ∨ k = 3 ∨ k = 4) with rfl | rfl | rfl | rfl | rfl <;> decide
noncomputable def dgt (v : Int) : Int := fwd (fun d => rh_tb 6 d = v) 10 0
theorem fwd_b1 {E : Int → Prop} : ∀ (n : Nat) (k : Int), fwd E n k = -1 ∨ (k ≤ fwd E n k ∧ fwd E n k < k + n)
  | 0, _ => .inl rfl
  | n + 1, k => by
    by_cases e : E k
    · rw [fwd_t e]; omega
    · rw [fwd_f e]
      have := fwd_b1 (E := E) n (k + 1)
      omega
theorem dgt_b (v : Int) : dgt v = -1 ∨ (0 ≤ dgt v ∧ dgt v ≤ 9) := by
  have := fwd_b1 (E := fun d => rh_tb 6 d = v) 10 0
  unfold dgt
  omega
theorem c_digH (hh : rh_hs wh) {f w : Int} (hf : 0 ≤ f ∧ f + 8 < 130) (A : rhM) : eC wh YX25_digitAt 0 [(2, 210), (0, f), (0, w)] A (dgt (bvs (fun k => A 211 (f + 2 * k)) w 5)) A := by
  refine eC.of1 (rC1.of (by decide) (LE0 rfl) ?_)
  obtain ⟨v, hv⟩ : ∃ v, v = bvs (fun k => A 211 (f + 2 * k)) w 5 := ⟨_, rfl⟩
  have fin : ∀ (u : Nat) (d : Int), d + u = 10 → 0 ≤ d → rh1 wh YX25_digitAt 0 45 [(3, 0, v), (4, 0, d)] [] A (fun r M' => r = fwd (fun d => rh_tb 6 d = v) u d ∧ M' = A) := by
    intro u
    induction u with
    | zero =>
      intro d hd d0
      refine rh1.of (rX25_digitAt_45 hh _ _ _ ?_)
      exact ⟨fun z => ⟨by omega, by omega⟩, fun z => by omega, fun _ => ⟨rh_if_t (by omega), rfl⟩⟩
    | succ u ih =>
      intro d hd d0
      refine rh1.of (rX25_digitAt_45 hh _ _ _ ?_)
      by_cases e : rh_tb 6 d = v
      · refine ⟨fun z => ⟨by omega, by omega⟩, fun z => absurd e z.2, fun _ => ⟨?_, rfl⟩⟩
        rw [fwd_t (E := fun d => rh_tb 6 d = v) e, rh_if_f (by omega)]
      · refine ⟨fun z => ⟨by omega, by omega⟩, fun _ => ⟨⟨by omega, by omega⟩, ?_⟩, fun z => absurd ⟨by omega, e⟩ z⟩
        rw [fwd_f (E := fun d => rh_tb 6 d = v) e]
        exact ih (d + 1) (by omega) (by omega)
  have key : ∀ (u k : Nat), k + u = 5 → rh1 wh YX25_digitAt 0 5 [(0, 2, 210), (1, 0, f), (2, 0, w), (3, 0, bvs (fun k => A 211 (f + 2 * k)) w k), (4, 0, (k : Int))] [] A (fun r M' => r = dgt v ∧ M' = A) := by
    intro u
    induction u with
    | zero =>
      intro k hk
      have e : k = 5 := by omega
      subst e
      refine rh1.of (rX25_digitAt_5 hh _ _ _ _ _ ?_)
      refine ⟨fun z => by omega, fun _ => ?_⟩
      rw [← hv]
      exact fin 10 0 (by decide) (by decide)
    | succ u ih =>
      intro k hk
      have b := bvs_b (g := fun k => A 211 (f + 2 * k)) (w := w) k
      have b2 := p24 (show k < 5 by omega)
      refine rh1.of (rX25_digitAt_5 hh _ _ _ _ _ ?_)
      refine ⟨fun _ => ⟨⟨by omega, by omega⟩, ?_⟩, fun z => by omega⟩
      rw [or_b1 ⟨by omega, by omega⟩ (if01 _)]
      (intro zq hzq; replace hzq := hzq.symm; subst hzq)
      refine ⟨⟨by omega, by omega⟩, ?_⟩
      rw [show (k : Int) + 1 = ((k + 1 : Nat) : Int) by omega]
      exact ih (k + 1) (by omega)
  refine rh1.of (rX25_digitAt_0 hh _ _ _ ?_)
  rw [← hv]
  exact key 5 0 rfl
theorem c_digM (hm : rh_ms wm) {f l : Int} (hf : 0 ≤ f ∧ f + 8 < 130) (B : rhM) (hl : B 0 217 = l) (hl2 : 0 ≤ l ∧ l ≤ 1000) : eC wm YX32_digitAt 1 [(2, 0), (0, f)] B (dgt (bvs (fun k => B 168 (f + 2 * k)) (2 * l) 5)) B := by
  refine eC.of1 (rC1.of (by decide) (LE0 rfl) ?_)
  obtain ⟨v, hv⟩ : ∃ v, v = bvs (fun k => B 168 (f + 2 * k)) (2 * l) 5 := ⟨_, rfl⟩
  have fin : ∀ (u : Nat) (d : Int), d + u = 10 → 0 ≤ d → rh1 wm YX32_digitAt 1 39 [(2, 0, v), (3, 0, d)] [] B (fun r M' => r = fwd (fun d => rh_tb 6 d = v) u d ∧ M' = B) := by
    intro u
    induction u with
    | zero =>
      intro d hd d0
      refine rh1.of (rX32_digitAt_39 hm _ _ _ ?_)
      exact ⟨fun z => by omega, fun _ => ⟨rfl, rfl⟩⟩
    | succ u ih =>
      intro d hd d0
      refine rh1.of (rX32_digitAt_39 hm _ _ _ ?_)
      rw [tb6 d0 (by omega)]
      by_cases e : rh_tb 6 d = v
      · refine ⟨fun _ => ⟨fun _ => ⟨?_, rfl⟩, fun z => absurd e z⟩, fun z => by omega⟩
        rw [fwd_t (E := fun d => rh_tb 6 d = v) e]
      · refine ⟨fun _ => ⟨fun z => absurd z e, fun _ => ⟨⟨by omega, by omega⟩, ?_⟩⟩, fun z => by omega⟩
        rw [fwd_f (E := fun d => rh_tb 6 d = v) e]
        exact ih (d + 1) (by omega) (by omega)
  have key : ∀ (u k : Nat), k + u = 5 → rh1 wm YX32_digitAt 1 4 [(0, 2, 0), (1, 0, f), (2, 0, bvs (fun k => B 168 (f + 2 * k)) (2 * l) k), (3, 0, (k : Int))] [] B (fun r M' => r = dgt v ∧ M' = B) := by
    intro u
    induction u with
    | zero =>
      intro k hk
      have e : k = 5 := by omega
      subst e
      refine rh1.of (rX32_digitAt_4 hm _ _ _ _ ?_)
      refine ⟨fun z => by omega, fun _ => ?_⟩
      rw [← hv]
      exact fin 10 0 (by decide) (by decide)
    | succ u ih =>
      intro k hk
      have b := bvs_b (g := fun k => B 168 (f + 2 * k)) (w := 2 * l) k
      have b2 := p24 (show k < 5 by omega)
      have i := if01 (2 * l ≤ B 168 (f + 2 * k))
      refine rh1.of (rX32_digitAt_4 hm _ _ _ _ ?_)
      rw [hl]
      refine ⟨fun _ => ⟨⟨by omega, by omega⟩, ⟨by omega, by omega⟩, ⟨by omega, by omega⟩, ?_⟩, fun z => by omega⟩
      (intro zq hzq; replace hzq := hzq.symm; subst hzq)
      refine ⟨⟨by omega, by omega⟩, ⟨by omega, by omega⟩, ?_⟩
      rw [show (k : Int) + 1 = ((k + 1 : Nat) : Int) by omega]
      exact ih (k + 1) (by omega)
  refine rh1.of (rX32_digitAt_0 hm _ _ ?_)
  rw [← hv]
  exact key 5 0 rfl
/-- the sum of the digits -/
noncomputable def csm (g : Int → Int) (n : Int) : Nat → Int
  | 0 => 0
  | k + 1 => csm g n k + rh_if ((n - 1 - k) % 2 = 1) 3 1 * g k
theorem csm_b {g : Int → Int} {n : Int} : ∀ k : Nat, (∀ i : Int, 0 ≤ i → i < k → 0 ≤ g i ∧ g i ≤ 9) → 0 ≤ csm g n k ∧ csm g n k ≤ 27 * k
  | 0, _ => ⟨Int.le_refl _, by show (0 : Int) ≤ 27 * ((0 : Nat) : Int); decide⟩
  | k + 1, h => by
    have r := csm_b (g := g) (n := n) k (fun i i0 i1 => h i i0 (by omega))
    have i := h k (by omega) (by omega)
    show 0 ≤ csm g n k + rh_if ((n - 1 - k) % 2 = 1) 3 1 * g k ∧ csm g n k + rh_if ((n - 1 - k) % 2 = 1) 3 1 * g k ≤ 27 * ((k + 1 : Nat) : Int)
    by_cases q : (n - 1 - (k : Int)) % 2 = 1
    · rw [rh_if_t q]; omega
    · rw [rh_if_f q]; omega
theorem csm_e {g g' : Int → Int} {n : Int} : ∀ k : Nat, (∀ i : Int, 0 ≤ i → i < k → g i = g' i) → csm g n k = csm g' n k
  | 0, _ => rfl
  | k + 1, h => by
    show csm g n k + rh_if ((n - 1 - k) % 2 = 1) 3 1 * g k = csm g' n k + rh_if ((n - 1 - k) % 2 = 1) 3 1 * g' k
    rw [csm_e k (fun i i0 i1 => h i i0 (by omega)), h k (by omega) (by omega)]
theorem c_chkH (hh : rh_hs wh) {x len n : Int} (hx : rh_bl wh 6 x len) (hn : 0 ≤ n ∧ n ≤ len ∧ n ≤ 20) (A : rhM) (hd : ∀ i : Int, 0 ≤ i → i < n → 0 ≤ A x i ∧ A x i ≤ 9) : eC wh YX25_isChecked 0 [(2, x), (0, n)] A (rh_if (csm (A x) n n.toNat % 10 = 0) 1 0) A := by
  refine eC.of1 (rC1.of (by decide) (LE0 rfl) ?_)
  have key : ∀ (u k : Nat), (k : Int) + u = n → rh1 wh YX25_isChecked 0 4 [(0, 2, x), (1, 0, n), (2, 0, csm (A x) n k), (3, 0, (k : Int))] [] A (fun r M' => r = rh_if (csm (A x) n n.toNat % 10 = 0) 1 0 ∧ M' = A) := by
    intro u
    induction u with
    | zero =>
      intro k hk
      have e : k = n.toNat := by omega
      have b := csm_b (g := A x) (n := n) k (fun i i0 i1 => hd i i0 (by omega))
      refine rh1.of (rX25_isChecked_4 hh _ _ _ _ _ _ hx ?_)
      rw [e] at b ⊢
      exact ⟨fun z => by omega, fun _ => ⟨⟨by omega, by omega⟩, rfl, rfl⟩⟩
    | succ u ih =>
      intro k hk
      have b := csm_b (g := A x) (n := n) k (fun i i0 i1 => hd i i0 (by omega))
      have b1 := csm_b (g := A x) (n := n) (k + 1) (fun i i0 i1 => hd i i0 (by omega))
      have e1 : csm (A x) n k + rh_if ((n - 1 - (k : Int)) % 2 = 1) (3 * A x k) (A x k) = csm (A x) n (k + 1) := by
        show _ = csm (A x) n k + rh_if ((n - 1 - k) % 2 = 1) 3 1 * A x k
        by_cases q : (n - 1 - (k : Int)) % 2 = 1
        · rw [rh_if_t q, rh_if_t q]
        · rw [rh_if_f q, rh_if_f q, Int.one_mul]
      refine rh1.of (rX25_isChecked_4 hh _ _ _ _ _ _ hx ?_)
      refine ⟨fun _ => ⟨⟨by omega, by omega⟩, ⟨by omega, by omega⟩, fun _ => ⟨by omega, by omega⟩, fun _ => ⟨by omega, by omega⟩, ?_⟩, fun z => by omega⟩
      rw [e1]
      (intro zq hzq; replace hzq := hzq.symm; subst hzq)
      refine ⟨⟨by omega, by omega⟩, ⟨by omega, by omega⟩, ?_⟩
      rw [show (k : Int) + 1 = ((k + 1 : Nat) : Int) by omega]
      exact ih (k + 1) (by omega)
  refine rh1.of (rX25_isChecked_0 hh _ _ _ _ hx ?_)
  exact key n.toNat 0 (by omega)
theorem c_chkM (hm : rh_ms wm) {x len n : Int} (hx : rh_bl wm 6 x len) (hn : 0 ≤ n ∧ n ≤ len ∧ n ≤ 20) (A : rhM) (hd : ∀ i : Int, 0 ≤ i → i < n → 0 ≤ A x i ∧ A x i ≤ 9) : eC wm YX32_isChecked 0 [(2, x), (0, n)] A (rh_if (csm (A x) n n.toNat % 10 = 0) 1 0) A := by
  refine eC.of1 (rC1.of (by decide) (LE0 rfl) ?_)
  have key : ∀ (u k : Nat), (k : Int) + u = n → rh1 wm YX32_isChecked 0 4 [(0, 2, x), (1, 0, n), (2, 0, csm (A x) n k), (3, 0, (k : Int))] [] A (fun r M' => r = rh_if (csm (A x) n n.toNat % 10 = 0) 1 0 ∧ M' = A) := by
    intro u
    induction u with
    | zero =>
      intro k hk
      have e : k = n.toNat := by omega
      have b := csm_b (g := A x) (n := n) k (fun i i0 i1 => hd i i0 (by omega))
      refine rh1.of (rX32_isChecked_4 hm _ _ _ _ _ _ hx ?_)
      rw [e] at b ⊢
      exact ⟨fun z => by omega, fun _ => ⟨⟨by omega, by omega⟩, rfl, rfl⟩⟩
    | succ u ih =>
      intro k hk
      have b := csm_b (g := A x) (n := n) k (fun i i0 i1 => hd i i0 (by omega))
      have b1 := csm_b (g := A x) (n := n) (k + 1) (fun i i0 i1 => hd i i0 (by omega))
      have e1 : csm (A x) n k + rh_if ((n - 1 - (k : Int)) % 2 = 1) (3 : Int) 1 * A x k = csm (A x) n (k + 1) := rfl
      refine rh1.of (rX32_isChecked_4 hm _ _ _ _ _ _ hx ?_)
      refine ⟨fun _ => ⟨⟨by omega, by omega⟩, ⟨by omega, by omega⟩, ⟨by omega, by omega⟩, ?_⟩, fun z => by omega⟩
      rw [e1]
      (intro zq hzq; replace hzq := hzq.symm; subst hzq)
      refine ⟨⟨by omega, by omega⟩, ⟨by omega, by omega⟩, ?_⟩
      rw [show (k : Int) + 1 = ((k + 1 : Nat) : Int) by omega]
      exact ih (k + 1) (by omega)
  refine rh1.of (rX32_isChecked_0 hm _ _ _ _ hx ?_)
  exact key n.toNat 0 (by omega)
/-- runs of a row on both sides: the model's begin o later -/
def Rns (A B : rhM) (o : Int) : Prop := (0 ≤ A 210 1 ∧ A 210 1 + o ≤ 130) ∧ (o = 0 ∨ o = 1) ∧ (A 210 1 = 0 ∧ B 0 215 ≤ o ∨ A 210 1 % 2 = 1) ∧ (A 210 1 + o ≤ B 0 215 ∧ B 0 215 ≤ A 210 1 + o + 1) ∧ (∀ k, 0 ≤ k → k < A 210 1 → A 211 k = B 168 (k + o) ∧ 1 ≤ B 168 (k + o) ∧ B 168 (k + o) ≤ 128) ∧ B 0 216 = 1 - o
def Fbh (c _j : Int) : Prop := c = 212
def Fbm (c j : Int) : Prop := c = 167 ∨ (c = 0 ∧ j = 217)
theorem Rns.fx {A B A' B' : rhM} {o : Int} (R : Rns A B o) (f : frx Fbh A A') (g : frx Fbm B B') : Rns A' B' o := by
  unfold Rns
  rw [f 210 1 (by unfold Fbh; omega), g 0 215 (by unfold Fbm; omega), g 0 216 (by unfold Fbm; omega)]
  refine ⟨R.1, R.2.1, R.2.2.1, R.2.2.2.1, fun k k0 k1 => ?_, R.2.2.2.2.2⟩
  rw [f 211 k (by unfold Fbh; omega), g 168 _ (by unfold Fbm; omega)]
  exact R.2.2.2.2.1 k k0 k1
def Dgs (A B : rhM) (n : Int) : Prop := ∀ k, 0 ≤ k → k < n → A 212 k = B 167 k ∧ 0 ≤ B 167 k ∧ B 167 k ≤ 9
theorem hs_212 (hh : rh_hs wh) : rh_bl wh 6 212 14 := rh_bl.of (o := 212) (m := 14) hh (by decide +kernel)
theorem ms_167 (hm : rh_ms wm) : rh_bl wm 6 167 20 := rh_bl.of (o := 167) (m := 20) hm (by decide +kernel)
/-- the least of the black runs -/
theorem t_least (hh : rh_hs wh) (hm : rh_ms wm) {A B : rhM} {o f n : Int} (R : Rns A B o) (hf : 0 ≤ f ∧ f % 2 = 0) (hn : 2 ≤ n ∧ n ≤ 14 ∧ n % 2 = 0) (big : f + (4 + 5 * n + 3) ≤ A 210 1) : ∀ (u : Nat) (k lh lm : Int), k + 2 * u = 8 + 5 * n → 0 ≤ k → ((k = 0 ∧ lh = 128 ∧ lm = 1000) ∨ (0 < k ∧ lh = lm ∧ 1 ≤ lm ∧ lm ≤ 128)) → ∃ l, (1 ≤ l ∧ l ≤ 128) ∧ eS wh YX25_isCode 1 28 [(0, 2, 210), (1, 0, f), (2, 0, n), (3, 0, 4 + 5 * n + 3), (4, 0, lh), (5, 0, k)] [] A 28 [(0, 2, 210), (1, 0, f), (2, 0, n), (3, 0, 4 + 5 * n + 3), (4, 0, l), (5, 0, 8 + 5 * n)] [] A ∧ eS wm YX32_isCode 2 30 [(0, 2, 0), (1, 0, f + o), (2, 0, n), (3, 0, f + o + 4 + 5 * n + 2), (4, 0, f + o + k)] [] (rh_set B 0 217 lm) 30 [(0, 2, 0), (1, 0, f + o), (2, 0, n), (3, 0, f + o + 4 + 5 * n + 2), (4, 0, f + o + (8 + 5 * n))] [] (rh_set B 0 217 l) := by
  obtain ⟨r1, r2, r3, r4, r5, r6⟩ := R
  intro u
  induction u with
  | zero =>
    intro k lh lm hk k0 hl
    have e : k = 8 + 5 * n := by omega
    subst e
    have hl2 : lh = lm ∧ 1 ≤ lm ∧ lm ≤ 128 := by omega
    rw [hl2.1]
    exact ⟨lm, hl2.2, eS.rf, eS.rf⟩
  | succ u ih =>
    intro k lh lm hk k0 hl
    have v := r5 (f + k) (by omega) (by omega)
    rw [show f + k + o = f + o + k by omega] at v
    have e : rh_if (A 211 (f + k) < lh) (A 211 (f + k)) lh = rh_if (lm < B 168 (f + o + k)) lm (B 168 (f + o + k)) ∧ 1 ≤ rh_if (lm < B 168 (f + o + k)) lm (B 168 (f + o + k)) ∧ rh_if (lm < B 168 (f + o + k)) lm (B 168 (f + o + k)) ≤ 128 := by
      rw [v.1]
      by_cases a : lm < B 168 (f + o + k)
      · rw [rh_if_t a, rh_if_f (by omega)]; omega
      · rw [rh_if_f a]
        by_cases b : B 168 (f + o + k) < lh
        · rw [rh_if_t b]; omega
        · rw [rh_if_f b]; omega
    obtain ⟨l, l1, E1, E2⟩ := ih (k + 2) _ _ (by omega) (by omega) (.inr ⟨by omega, e⟩)
    refine ⟨l, l1, eS.of (fun P HP => ?_), eS.of (fun P HP => ?_)⟩
    · refine rh1.of (rX25_isCode_28 hh _ _ _ _ _ _ ?_)
      refine ⟨fun _ => ⟨⟨by omega, by omega⟩, ?_⟩, fun z => by omega⟩
      (intro zq hzq; replace hzq := hzq.symm; subst hzq)
      exact ⟨⟨by omega, by omega⟩, rh1.s E1 HP⟩
    · refine rh1.of (rX32_isCode_30 hm _ _ _ _ _ ?_)
      rw [rh_set_s, rh_set_a (by decide)]
      refine ⟨fun _ => ⟨⟨by omega, by omega⟩, ?_⟩, fun z => by omega⟩
      (intro zq hzq; replace hzq := hzq.symm; subst hzq)
      rw [rh_set_2, show f + o + k + 2 = f + o + (k + 2) by omega]
      exact ⟨⟨by omega, by omega⟩, rh1.s E2 HP⟩
/-- the first four runs are narrow -/
def Nrw (A : rhM) (f w k : Int) : Prop := ∀ i, 0 ≤ i → i < k → A 211 (f + i) < w
theorem Nrw_s {A : rhM} {f w k : Int} (k0 : 0 ≤ k) : rh_if (Nrw A f w k ∧ A 211 (f + k) < w) (1 : Int) 0 = rh_if (Nrw A f w (k + 1)) 1 0 := by
  by_cases q : Nrw A f w k ∧ A 211 (f + k) < w
  · rw [rh_if_t q, rh_if_t (show Nrw A f w (k + 1) from fun i i0 i1 => by
      by_cases e : i = k
      · rw [e]; exact q.2
      · exact q.1 i i0 (by omega))]
  · rw [rh_if_f q, rh_if_f (show ¬ Nrw A f w (k + 1) from fun z => q ⟨fun i i0 i1 => z i i0 (by omega), z k k0 (by omega)⟩)]
theorem h_nrw (hh : rh_hs wh) {A : rhM} {f n L w : Int} (hf : 0 ≤ f ∧ f + 4 ≤ 130) : ∀ (u : Nat) (k : Int), k + u = 4 → 0 ≤ k → eS wh YX25_isCode 1 68 [(0, 2, 210), (1, 0, f), (2, 0, n), (3, 0, L), (5, 0, w), (6, 0, rh_if (Nrw A f w k) 1 0), (7, 0, k)] [] A 68 [(0, 2, 210), (1, 0, f), (2, 0, n), (3, 0, L), (5, 0, w), (6, 0, rh_if (Nrw A f w 4) 1 0), (7, 0, 4)] [] A := by
  intro u
  induction u with
  | zero =>
    intro k hk k0
    have e : k = 4 := by omega
    rw [e]
    exact eS.rf
  | succ u ih =>
    intro k hk k0
    refine eS.of (fun P HP => ?_)
    refine rh1.of (rX25_isCode_68 hh _ _ _ _ _ _ _ ?_)
    refine ⟨fun _ => ⟨⟨by omega, by omega⟩, ?_⟩, fun z => by omega⟩
    rw [and_if, Nrw_s k0]
    (intro zq hzq; replace hzq := hzq.symm; subst hzq)
    exact ⟨⟨by omega, by omega⟩, rh1.s (ih (k + 1) (by omega) (by omega)) HP⟩
theorem m_nrw (hm : rh_ms wm) {A B : rhM} {S : Prop} {f g n l : Int} (hg : 0 ≤ g ∧ g + 4 ≤ 130) (hl : B 0 217 = l) (hl2 : 1 ≤ l ∧ l ≤ 128) (hr : ∀ i, 0 ≤ i → i < 4 → A 211 (f + i) = B 168 (g + i)) : ∀ (u : Nat) (k : Int), k + u = 4 → 0 ≤ k → eS wm YX32_isCode 2 98 [(0, 2, 0), (1, 0, g), (2, 0, n), (4, 0, rh_if (S ∧ Nrw A f (2 * l) k) 1 0), (5, 0, k)] [] B 98 [(0, 2, 0), (1, 0, g), (2, 0, n), (4, 0, rh_if (S ∧ Nrw A f (2 * l) 4) 1 0), (5, 0, 4)] [] B := by
  intro u
  induction u with
  | zero =>
    intro k hk k0
    have e : k = 4 := by omega
    rw [e]
    exact eS.rf
  | succ u ih =>
    intro k hk k0
    refine eS.of (fun P HP => ?_)
    refine rh1.of (rX32_isCode_98 hm _ _ _ _ _ ?_)
    rw [hl, ← hr k k0 (by omega)]
    refine ⟨fun _ => ⟨fun _ => ⟨by omega, by omega⟩, fun _ => ⟨by omega, by omega⟩, fun _ => ⟨by omega, by omega⟩, ?_⟩, fun z => by omega⟩
    have e : rh_if (rh_if (S ∧ Nrw A f (2 * l) k) (1 : Int) 0 ≠ 0 ∧ A 211 (f + k) < 2 * l) (1 : Int) 0 = rh_if (S ∧ Nrw A f (2 * l) (k + 1)) 1 0 := by
      have s := Nrw_s (A := A) (f := f) (w := 2 * l) k0
      by_cases a : S ∧ Nrw A f (2 * l) k
      · rw [rh_if_t a]
        by_cases b : A 211 (f + k) < 2 * l
        · rw [rh_if_t (show (1 : Int) ≠ 0 ∧ _ from ⟨by decide, b⟩)]
          rw [rh_if_t (show Nrw A f (2 * l) k ∧ A 211 (f + k) < 2 * l from ⟨a.2, b⟩)] at s
          have q : Nrw A f (2 * l) (k + 1) := Classical.byContradiction (fun z => by rw [rh_if_f z] at s; omega)
          rw [rh_if_t ⟨a.1, q⟩]
        · rw [rh_if_f (show ¬ ((1 : Int) ≠ 0 ∧ A 211 (f + k) < 2 * l) from fun z => b z.2), rh_if_f (fun z => b (z.2 k k0 (by omega)))]
      · rw [rh_if_f a, rh_if_f (show ¬ ((0 : Int) ≠ 0 ∧ A 211 (f + k) < 2 * l) from fun z => z.1 rfl), rh_if_f (fun z => a ⟨z.1, fun i i0 i1 => z.2 i i0 (by omega)⟩)]
    rw [e]
    (intro zq hzq; replace hzq := hzq.symm; subst hzq)
    exact ⟨⟨by omega, by omega⟩, rh1.s (ih (k + 1) (by omega) (by omega)) HP⟩
/-- the digit at place k -/
noncomputable def Dat (A : rhM) (f w k : Int) : Int := dgt (bvs (fun i => A 211 (f + 4 + k / 2 * 10 + k % 2 + 2 * i)) w 5)
theorem h_dig (hh : rh_hs wh) {A A1 : rhM} {f n L w k : Int} (hf : 0 ≤ f ∧ f + (4 + 5 * n + 3) ≤ 130) (hn : 2 ≤ n ∧ n ≤ 14 ∧ n % 2 = 0) (hk : 0 ≤ k ∧ k < n) (fA : frx Fbh A A1) {P : Int → rhM → Prop} (H : rh1 wh YX25_isCode 1 107 [(0, 2, 210), (1, 0, f), (2, 0, n), (3, 0, L), (5, 0, w), (6, 0, rh_if (Dat A f w k ≠ -1) 1 0), (7, 0, k + 1)] [] (rh_set A1 212 k (Dat A f w k)) P) : rh1 wh YX25_isCode 1 107 [(0, 2, 210), (1, 0, f), (2, 0, n), (3, 0, L), (5, 0, w), (6, 0, 1), (7, 0, k)] [] A1 P := by
  refine rh1.of (rX25_isCode_107 hh _ _ _ _ _ _ _ ?_)
  refine ⟨fun _ => ⟨⟨by omega, by omega⟩, ⟨by omega, by omega⟩, ?_⟩, fun z => absurd ⟨by omega, by decide⟩ z⟩
  refine rh1.s (eS.fx 1 (x := f + 4 + k / 2 * 10 + k % 2) rfl ⟨by omega, by omega⟩ rfl) ?_
  have e : (fun i => A1 211 (f + 4 + k / 2 * 10 + k % 2 + 2 * i)) = (fun i => A 211 (f + 4 + k / 2 * 10 + k % 2 + 2 * i)) := funext (fun i => fA 211 _ (by unfold Fbh; omega))
  have K := c_digH hh (f := f + 4 + k / 2 * 10 + k % 2) (w := w) ⟨by omega, by omega⟩ A1
  rw [e] at K
  refine rh1.s (vX25_isCode_143 hh K (LE0 rfl)) ?_
  refine rh1.of (rX25_isCode_146 hh _ _ _ _ _ _ _ _ ?_)
  rw [rh_set_s]
  refine ⟨⟨by omega, by omega⟩, ⟨by omega, by omega⟩, ?_⟩
  (intro zq hzq; replace hzq := hzq.symm; subst hzq)
  exact ⟨⟨by omega, by omega⟩, H⟩
theorem h_out (hh : rh_hs wh) {A1 : rhM} {f n L w k : Int} (hL : rI (f + L - 3)) {P : Int → rhM → Prop} (H : P 0 A1) : rh1 wh YX25_isCode 1 107 [(0, 2, 210), (1, 0, f), (2, 0, n), (3, 0, L), (5, 0, w), (6, 0, 0), (7, 0, k)] [] A1 P := by
  refine rh1.of (rX25_isCode_107 hh _ _ _ _ _ _ _ ?_)
  exact ⟨fun z => absurd rfl z.2, fun _ => ⟨hL, fun z => absurd rfl z, fun z => absurd rfl z, fun z => absurd rfl z, fun z => absurd rfl z.1, fun _ => H⟩⟩
/-- the stop -/
def Stb (A : rhM) (q w : Int) : Prop := w ≤ A 211 q ∧ A 211 (q + 1) < w ∧ A 211 (q + 2) < w
theorem Stb.fx {A A1 : rhM} {q w : Int} (fA : frx Fbh A A1) : Stb A1 q w ↔ Stb A q w := by
  unfold Stb
  rw [fA 211 q (by unfold Fbh; omega), fA 211 (q + 1) (by unfold Fbh; omega), fA 211 (q + 2) (by unfold Fbh; omega)]
theorem h_end (hh : rh_hs wh) {A1 : rhM} {f n w : Int} (hf : 0 ≤ f ∧ f + (4 + 5 * n + 3) ≤ 130) (hn : 2 ≤ n ∧ n ≤ 14 ∧ n % 2 = 0) {P : Int → rhM → Prop} (H0 : ¬ Stb A1 (f + (4 + 5 * n + 3) - 3) w → P 0 A1) (H1 : Stb A1 (f + (4 + 5 * n + 3) - 3) w → rh1 wh YX25_isCode 1 228 [] [(0, n), (2, 212)] A1 P) : rh1 wh YX25_isCode 1 107 [(0, 2, 210), (1, 0, f), (2, 0, n), (3, 0, 4 + 5 * n + 3), (5, 0, w), (6, 0, 1), (7, 0, n)] [] A1 P := by
  refine rh1.of (rX25_isCode_107 hh _ _ _ _ _ _ _ ?_)
  refine ⟨fun z => by omega, fun _ => ⟨⟨by omega, by omega⟩, fun _ => ⟨by omega, by omega⟩, fun _ _ => ⟨by omega, by omega⟩, fun _ _ _ => ⟨by omega, by omega⟩, fun z => ?_, fun z => ?_⟩⟩
  · exact H1 z.2
  · exact H0 (fun s => z ⟨by decide, s⟩)
theorem bvs_e {g g' : Int → Int} {w : Int} : ∀ k : Nat, (∀ i : Int, 0 ≤ i → i < k → g i = g' i) → bvs g w k = bvs g' w k
  | 0, _ => rfl
  | k + 1, h => by
    show 2 * bvs g w k + rh_if (w ≤ g k) 1 0 = 2 * bvs g' w k + rh_if (w ≤ g' k) 1 0
    rw [bvs_e k (fun i i0 i1 => h i i0 (by omega)), h k (by omega) (by omega)]
theorem m_dig (hm : rh_ms wm) {A B2 : rhM} {f g n l k : Int} (hg : 0 ≤ g ∧ g + (7 + 5 * n) ≤ 130) (hn : 2 ≤ n ∧ n ≤ 14 ∧ n % 2 = 0) (hk : 0 ≤ k ∧ k + 2 ≤ n ∧ k % 2 = 0) (hl : B2 0 217 = l) (hl2 : 1 ≤ l ∧ l ≤ 128) (hr : ∀ i, 0 ≤ i → i < 7 + 5 * n → A 211 (f + i) = B2 168 (g + i)) {P : Int → rhM → Prop} (H : rh1 wm YX32_isCode 2 136 [(0, 2, 0), (1, 0, g), (2, 0, n), (4, 0, rh_if (Dat A f (2 * l) k ≠ -1 ∧ Dat A f (2 * l) (k + 1) ≠ -1) 1 0), (5, 0, k + 2)] [] (rh_set (rh_set B2 167 k (Dat A f (2 * l) k)) 167 (k + 1) (Dat A f (2 * l) (k + 1))) P) : rh1 wm YX32_isCode 2 136 [(0, 2, 0), (1, 0, g), (2, 0, n), (4, 0, 1), (5, 0, k)] [] B2 P := by
  obtain ⟨d0, hd0⟩ : ∃ d0, d0 = Dat A f (2 * l) k := ⟨_, rfl⟩
  obtain ⟨d1, hd1⟩ : ∃ d1, d1 = Dat A f (2 * l) (k + 1) := ⟨_, rfl⟩
  rw [← hd0, ← hd1] at H
  have e0 : dgt (bvs (fun i => B2 168 (g + 4 + 5 * k + 2 * i)) (2 * l) 5) = d0 := by
    rw [hd0]
    unfold Dat
    rw [bvs_e 5 (fun i i0 i1 => ?_)]
    rw [show f + 4 + k / 2 * 10 + k % 2 + 2 * i = f + (4 + 5 * k + 2 * i) by omega, hr _ (by omega) (by omega), show g + (4 + 5 * k + 2 * i) = g + 4 + 5 * k + 2 * i by omega]
  have e1 : dgt (bvs (fun i => rh_set B2 167 k d0 168 (g + 4 + 5 * k + 1 + 2 * i)) (2 * l) 5) = d1 := by
    rw [hd1]
    unfold Dat
    rw [bvs_e 5 (fun i i0 i1 => ?_)]
    rw [rh_set_a (by decide), show f + 4 + (k + 1) / 2 * 10 + (k + 1) % 2 + 2 * i = f + (4 + 5 * k + 1 + 2 * i) by omega, hr _ (by omega) (by omega), show g + (4 + 5 * k + 1 + 2 * i) = g + 4 + 5 * k + 1 + 2 * i by omega]
  have K0 := c_digM hm (f := g + 4 + 5 * k) ⟨by omega, by omega⟩ B2 hl ⟨by omega, by omega⟩
  rw [e0] at K0
  have K1 := c_digM hm (f := g + 4 + 5 * k + 1) (l := l) ⟨by omega, by omega⟩ (rh_set B2 167 k d0) (by rw [rh_set_a (by decide)]; exact hl) ⟨by omega, by omega⟩
  rw [e1] at K1
  refine rh1.of (rX32_isCode_136 hm _ _ _ _ _ ?_)
  refine ⟨fun _ => ?_, fun z => absurd ⟨by omega, by decide⟩ z⟩
  refine rh1.s (eS.fx 0 (x := g + 4 + 5 * k) rfl ⟨by omega, by omega⟩ rfl) ?_
  refine rh1.s (vX32_isCode_162 hm K0 (LE0 rfl)) ?_
  refine rh1.of (rX32_isCode_165 hm _ _ _ _ _ _ ?_)
  refine ⟨⟨by omega, by omega⟩, ?_⟩
  refine rh1.s (eS.fx 0 (x := g + 4 + 5 * k + 1) rfl ⟨by omega, by omega⟩ rfl) ?_
  refine rh1.s (eS.fx 2 (x := k + 1) rfl ⟨by omega, by omega⟩ rfl) ?_
  refine rh1.s (vX32_isCode_185 hm K1 (LE0 rfl)) ?_
  refine rh1.of (rX32_isCode_188 hm _ _ _ _ _ _ ?_)
  rw [rh_set_s, rh_set_j (by omega), rh_set_s]
  refine ⟨⟨by omega, by omega⟩, ⟨by omega, by omega⟩, fun _ => ⟨by omega, by omega⟩, ?_⟩
  (intro zq hzq; replace hzq := hzq.symm; subst hzq)
  exact ⟨⟨by omega, by omega⟩, H⟩
theorem t_isCode (hh : rh_hs wh) (hm : rh_ms wm) {A B : rhM} {o f n : Int} (R : Rns A B o) (hf : 0 ≤ f ∧ f ≤ 200 ∧ f % 2 = 0) (hn : 2 ≤ n ∧ n ≤ 14 ∧ n % 2 = 0) : ∃ v A' B', eC wh YX25_isCode 1 [(2, 210), (0, f), (0, n)] A v A' ∧ eC wm YX32_isCode 2 [(2, 0), (0, f + o), (0, n)] B v B' ∧ (v = 0 ∨ (v = 1 ∧ Dgs A' B' n)) ∧ frx Fbh A A' ∧ frx Fbm B B' := by
  have RR := R
  obtain ⟨r1, r2, r3, r4, r5, r6⟩ := R
  by_cases big : A 210 1 < f + (4 + 5 * n + 3)
  · refine ⟨0, A, B, eC.of1 (rC1.of (by decide) (LE0 rfl) ?_), eC.of1 (rC1.of (by decide) (LE0 rfl) ?_), .inl rfl, frx.rf, frx.rf⟩
    · refine rh1.of (rX25_isCode_0 hh _ _ _ ?_)
      exact ⟨⟨by omega, by omega⟩, ⟨by omega, by omega⟩, fun _ => ⟨rfl, rfl⟩, fun z => absurd big z⟩
    · refine rh1.of (rX32_isCode_0 hm _ _ _ ?_)
      (intro zq hzq; replace hzq := hzq.symm; subst hzq)
      exact ⟨⟨by omega, by omega⟩, fun _ => ⟨rfl, rfl⟩, fun z => by omega⟩
  obtain ⟨l, hl2, E1, E2⟩ := t_least hh hm RR ⟨hf.1, hf.2.2⟩ hn (by omega) (4 + 5 * (n / 2)).toNat 0 128 1000 (by omega) (by decide) (.inl ⟨rfl, rfl, rfl⟩)
  rw [show f + o + 0 = f + o by omega] at E2
  obtain ⟨B1, hB1⟩ : ∃ B1, B1 = rh_set B 0 217 l := ⟨_, rfl⟩
  rw [← hB1] at E2
  have g1 : frx Fbm B B1 := by rw [hB1]; exact frx.rf.st (.inr ⟨rfl, rfl⟩)
  have hl : B1 0 217 = l := by rw [hB1, rh_set_s]
  have b8 : ∀ i, B1 168 i = B 168 i := fun i => by rw [hB1, rh_set_a (by decide)]
  have hr : ∀ i, 0 ≤ i → i < 7 + 5 * n → A 211 (f + i) = B1 168 (f + o + i) := fun i i0 i1 => by
    rw [b8, (r5 (f + i) (by omega) (by omega)).1, show f + i + o = f + o + i by omega]
  have S2 : (2 * l ≤ B1 168 (f + o + 4 + 5 * n + 2 - 2) ∧ (B1 168 (f + o + 4 + 5 * n + 2 - 1) < 2 * l ∧ B1 168 (f + o + 4 + 5 * n + 2) < 2 * l)) ↔ Stb A (f + (4 + 5 * n + 3) - 3) (2 * l) := by
    unfold Stb
    rw [show f + (4 + 5 * n + 3) - 3 = f + (4 + 5 * n) by omega, show f + (4 + 5 * n) + 1 = f + (4 + 5 * n + 1) by omega, show f + (4 + 5 * n) + 2 = f + (4 + 5 * n + 2) by omega, hr _ (by omega) (by omega), hr _ (by omega) (by omega), hr _ (by omega) (by omega), show f + o + 4 + 5 * n + 2 - 2 = f + o + (4 + 5 * n) by omega, show f + o + 4 + 5 * n + 2 - 1 = f + o + (4 + 5 * n + 1) by omega, show f + o + 4 + 5 * n + 2 = f + o + (4 + 5 * n + 2) by omega]
  obtain ⟨S, hS⟩ : ∃ S, S = Stb A (f + (4 + 5 * n + 3) - 3) (2 * l) := ⟨_, rfl⟩
  have SH : ∀ P : Int → rhM → Prop, rh1 wh YX25_isCode 1 107 [(0, 2, 210), (1, 0, f), (2, 0, n), (3, 0, 4 + 5 * n + 3), (5, 0, 2 * l), (6, 0, rh_if (Nrw A f (2 * l) 4) 1 0), (7, 0, 0)] [] A P → rh1 wh YX25_isCode 1 0 [(0, 2, 210), (1, 0, f), (2, 0, n)] [] A P := fun P HP => by
    refine rh1.of (rX25_isCode_0 hh _ _ _ ?_)
    refine ⟨⟨by omega, by omega⟩, ⟨by omega, by omega⟩, fun z => absurd z big, fun _ => rh1.s E1 ?_⟩
    refine rh1.of (rX25_isCode_28 hh _ _ _ _ _ _ ?_)
    refine ⟨fun z => by omega, fun _ => ⟨⟨by omega, by omega⟩, ?_⟩⟩
    have E3 := h_nrw hh (A := A) (f := f) (n := n) (L := 4 + 5 * n + 3) (w := 2 * l) ⟨by omega, by omega⟩ 4 0 (by decide) (by decide)
    rw [rh_if_t (show Nrw A f (2 * l) 0 from fun i i0 i1 => by omega)] at E3
    refine rh1.s E3 ?_
    refine rh1.of (rX25_isCode_68 hh _ _ _ _ _ _ _ ?_)
    exact ⟨fun z => absurd z (by decide), fun _ => HP⟩
  have SM : ∀ P : Int → rhM → Prop, rh1 wm YX32_isCode 2 136 [(0, 2, 0), (1, 0, f + o), (2, 0, n), (4, 0, rh_if (S ∧ Nrw A f (2 * l) 4) 1 0), (5, 0, 0)] [] B1 P → rh1 wm YX32_isCode 2 0 [(0, 2, 0), (1, 0, f + o), (2, 0, n)] [] B P := fun P HP => by
    refine rh1.of (rX32_isCode_0 hm _ _ _ ?_)
    (intro zq hzq; replace hzq := hzq.symm; subst hzq)
    refine ⟨⟨by omega, by omega⟩, fun z => by omega, fun _ => rh1.s E2 ?_⟩
    refine rh1.of (rX32_isCode_30 hm _ _ _ _ _ ?_)
    rw [hl]
    refine ⟨fun z => by omega, fun _ => ⟨⟨by omega, by omega⟩, ⟨by omega, by omega⟩, ⟨by omega, by omega⟩, fun _ => ⟨by omega, by omega⟩, fun _ => ⟨by omega, by omega⟩, fun _ => ⟨by omega, by omega⟩, fun _ _ => ⟨by omega, by omega⟩, fun _ _ => ⟨by omega, by omega⟩, ?_⟩⟩
    rw [S2, ← hS]
    (intro zq hzq; replace hzq := hzq.symm; subst hzq)
    have E3 := m_nrw hm (A := A) (B := B1) (S := S) (f := f) (g := f + o) (n := n) ⟨by omega, by omega⟩ hl hl2 (fun i i0 i1 => hr i i0 (by omega)) 4 0 (by decide) (by decide)
    have e0 : rh_if (S ∧ Nrw A f (2 * l) 0) (1 : Int) 0 = rh_if S 1 0 := by
      by_cases q : S
      · rw [rh_if_t q, rh_if_t ⟨q, fun i i0 i1 => by omega⟩]
      · rw [rh_if_f q, rh_if_f (fun z => q z.1)]
    rw [e0] at E3
    refine rh1.s E3 ?_
    refine rh1.of (rX32_isCode_98 hm _ _ _ _ _ ?_)
    exact ⟨fun z => absurd z (by decide), fun _ => HP⟩
  have MK : ∀ (v : Int) (A' B' : rhM), (∀ P : Int → rhM → Prop, P v A' → rh1 wh YX25_isCode 1 107 [(0, 2, 210), (1, 0, f), (2, 0, n), (3, 0, 4 + 5 * n + 3), (5, 0, 2 * l), (6, 0, rh_if (Nrw A f (2 * l) 4) 1 0), (7, 0, 0)] [] A P) → (∀ P : Int → rhM → Prop, P v B' → rh1 wm YX32_isCode 2 136 [(0, 2, 0), (1, 0, f + o), (2, 0, n), (4, 0, rh_if (S ∧ Nrw A f (2 * l) 4) 1 0), (5, 0, 0)] [] B1 P) → (v = 0 ∨ (v = 1 ∧ Dgs A' B' n)) → frx Fbh A A' → frx Fbm B B' → ∃ v A' B', eC wh YX25_isCode 1 [(2, 210), (0, f), (0, n)] A v A' ∧ eC wm YX32_isCode 2 [(2, 0), (0, f + o), (0, n)] B v B' ∧ (v = 0 ∨ (v = 1 ∧ Dgs A' B' n)) ∧ frx Fbh A A' ∧ frx Fbm B B' := fun v A' B' H1 H2 c1 c2 c3 => ⟨v, A', B', eC.of1 (rC1.of (by decide) (LE0 rfl) (SH _ (H1 _ ⟨rfl, rfl⟩))), eC.of1 (rC1.of (by decide) (LE0 rfl) (SM _ (H2 _ ⟨rfl, rfl⟩))), c1, c2, c3⟩
  have M0 : ∀ (B2 : rhM) (k : Int) (P : Int → rhM → Prop), P 0 B2 → rh1 wm YX32_isCode 2 136 [(0, 2, 0), (1, 0, f + o), (2, 0, n), (4, 0, 0), (5, 0, k)] [] B2 P := fun B2 k P HP => by
    refine rh1.of (rX32_isCode_136 hm _ _ _ _ _ ?_)
    exact ⟨fun z => absurd rfl z.2, fun _ => ⟨fun z => absurd rfl z, fun _ => HP⟩⟩
  by_cases g4 : Nrw A f (2 * l) 4
  case neg =>
    refine MK 0 A B1 (fun P HP => ?_) (fun P HP => ?_) (.inl rfl) frx.rf g1
    · rw [rh_if_f g4]
      exact h_out hh ⟨by omega, by omega⟩ HP
    · rw [rh_if_f (fun z => g4 z.2)]
      exact M0 B1 0 P HP
  by_cases s : S
  case neg =>
    have key : ∀ (u : Nat) (k x6 : Int) (A1 : rhM), k + u = n → 0 ≤ k → (x6 = 0 ∨ x6 = 1) → frx Fbh A A1 → ∃ A', frx Fbh A A' ∧ ∀ P : Int → rhM → Prop, P 0 A' → rh1 wh YX25_isCode 1 107 [(0, 2, 210), (1, 0, f), (2, 0, n), (3, 0, 4 + 5 * n + 3), (5, 0, 2 * l), (6, 0, x6), (7, 0, k)] [] A1 P := by
      intro u
      induction u with
      | zero =>
        intro k x6 A1 hk k0 h6 fA
        have e : k = n := by omega
        rw [e]
        refine ⟨A1, fA, fun P HP => ?_⟩
        rcases h6 with rfl | rfl
        · exact h_out hh ⟨by omega, by omega⟩ HP
        · exact h_end hh ⟨by omega, by omega⟩ hn (fun _ => HP) (fun z => absurd (by rw [hS]; exact (Stb.fx fA).mp z) s)
      | succ u ih =>
        intro k x6 A1 hk k0 h6 fA
        rcases h6 with rfl | rfl
        · exact ⟨A1, fA, fun P HP => h_out hh ⟨by omega, by omega⟩ HP⟩
        · obtain ⟨A', f', H⟩ := ih (k + 1) (rh_if (Dat A f (2 * l) k ≠ -1) 1 0) (rh_set A1 212 k (Dat A f (2 * l) k)) (by omega) (by omega) (if01 _) (fA.st rfl)
          exact ⟨A', f', fun P HP => h_dig hh ⟨by omega, by omega⟩ hn ⟨by omega, by omega⟩ fA (H P HP)⟩
    obtain ⟨A', f', H⟩ := key n.toNat 0 1 A (by omega) (by decide) (.inr rfl) frx.rf
    refine MK 0 A' B1 (fun P HP => ?_) (fun P HP => ?_) (.inl rfl) f' g1
    · rw [rh_if_t g4]
      exact H P HP
    · rw [rh_if_f (fun z => s z.1)]
      exact M0 B1 0 P HP
  have key : ∀ (u : Nat) (k : Int) (A1 B2 : rhM), k + 2 * u = n → 0 ≤ k → Dgs A1 B2 k → frx Fbh A A1 → frx (fun c _ => c = 167) B1 B2 → ∃ v A' B', (∀ P : Int → rhM → Prop, P v A' → rh1 wh YX25_isCode 1 107 [(0, 2, 210), (1, 0, f), (2, 0, n), (3, 0, 4 + 5 * n + 3), (5, 0, 2 * l), (6, 0, 1), (7, 0, k)] [] A1 P) ∧ (∀ P : Int → rhM → Prop, P v B' → rh1 wm YX32_isCode 2 136 [(0, 2, 0), (1, 0, f + o), (2, 0, n), (4, 0, 1), (5, 0, k)] [] B2 P) ∧ (v = 0 ∨ (v = 1 ∧ Dgs A' B' n)) ∧ frx Fbh A A' ∧ frx (fun c _ => c = 167) B1 B' := by
    intro u
    induction u with
    | zero =>
      intro k A1 B2 hk k0 D fA gB
      have e : k = n := by omega
      subst e
      have ce : csm (A1 212) k k.toNat = csm (B2 167) k k.toNat := csm_e _ (fun i i0 i1 => (D i i0 (by omega)).1)
      have KH := c_chkH hh (hs_212 hh) (n := k) ⟨by omega, by omega, by omega⟩ A1 (fun i i0 i1 => by rw [(D i i0 i1).1]; exact (D i i0 i1).2)
      have KM := c_chkM hm (ms_167 hm) (n := k) ⟨by omega, by omega, by omega⟩ B2 (fun i i0 i1 => (D i i0 i1).2)
      rw [ce] at KH
      obtain ⟨q, hq⟩ : ∃ q, q = rh_if (csm (B2 167) k k.toNat % 10 = 0) (1 : Int) 0 := ⟨_, rfl⟩
      rw [← hq] at KH KM
      refine ⟨rh_if (q ≠ 0) 1 0, A1, B2, fun P HP => ?_, fun P HP => ?_, ?_, fA, gB⟩
      · refine h_end hh ⟨by omega, by omega⟩ hn (fun z => absurd ((Stb.fx fA).mpr (by rw [← hS]; exact s)) z) (fun _ => ?_)
        refine rh1.s (vX25_isCode_228 KH (LE0 rfl)) ?_
        refine rh1.of (rX25_isCode_231 hh _ _ ?_)
        exact HP
      · refine rh1.of (rX32_isCode_136 hm _ _ _ _ _ ?_)
        refine ⟨fun z => by omega, fun _ => ⟨fun _ => ?_, fun z => absurd (show (1 : Int) ≠ 0 by decide) z⟩⟩
        refine rh1.s (vX32_isCode_236 KM (LE0 rfl)) ?_
        refine rh1.of (rX32_isCode_239 hm _ _ ?_)
        exact HP
      · rcases if01 (q ≠ 0) with e | e
        · exact .inl e
        · exact .inr ⟨e, D⟩
    | succ u ih =>
      intro k A1 B2 hk k0 D fA gB
      obtain ⟨d0, hd0⟩ : ∃ d0, d0 = Dat A f (2 * l) k := ⟨_, rfl⟩
      obtain ⟨d1, hd1⟩ : ∃ d1, d1 = Dat A f (2 * l) (k + 1) := ⟨_, rfl⟩
      have b0 : d0 = -1 ∨ (0 ≤ d0 ∧ d0 ≤ 9) := by rw [hd0]; exact dgt_b _
      have b1 : d1 = -1 ∨ (0 ≤ d1 ∧ d1 ≤ 9) := by rw [hd1]; exact dgt_b _
      have fA2 : frx Fbh A (rh_set A1 212 k d0) := fA.st rfl
      have fA3 : frx Fbh A (rh_set (rh_set A1 212 k d0) 212 (k + 1) d1) := fA2.st rfl
      have gB4 : frx (fun c _ => c = 167) B1 (rh_set (rh_set B2 167 k d0) 167 (k + 1) d1) := (gB.st rfl).st rfl
      have MM : ∀ P : Int → rhM → Prop, rh1 wm YX32_isCode 2 136 [(0, 2, 0), (1, 0, f + o), (2, 0, n), (4, 0, rh_if (d0 ≠ -1 ∧ d1 ≠ -1) 1 0), (5, 0, k + 2)] [] (rh_set (rh_set B2 167 k d0) 167 (k + 1) d1) P → rh1 wm YX32_isCode 2 136 [(0, 2, 0), (1, 0, f + o), (2, 0, n), (4, 0, 1), (5, 0, k)] [] B2 P := fun P HP => by
        rw [hd0, hd1] at HP
        exact m_dig hm ⟨by omega, by omega⟩ hn ⟨by omega, by omega, by omega⟩ (by rw [gB 0 217 (by omega)]; exact hl) hl2 (fun i i0 i1 => by rw [gB 168 _ (by omega)]; exact hr i i0 i1) HP
      have HH : ∀ P : Int → rhM → Prop, rh1 wh YX25_isCode 1 107 [(0, 2, 210), (1, 0, f), (2, 0, n), (3, 0, 4 + 5 * n + 3), (5, 0, 2 * l), (6, 0, rh_if (d0 ≠ -1) 1 0), (7, 0, k + 1)] [] (rh_set A1 212 k d0) P → rh1 wh YX25_isCode 1 107 [(0, 2, 210), (1, 0, f), (2, 0, n), (3, 0, 4 + 5 * n + 3), (5, 0, 2 * l), (6, 0, 1), (7, 0, k)] [] A1 P := fun P HP => by
        rw [hd0] at HP
        exact h_dig hh ⟨by omega, by omega⟩ hn ⟨by omega, by omega⟩ fA HP
      have HH2 : ∀ P : Int → rhM → Prop, rh1 wh YX25_isCode 1 107 [(0, 2, 210), (1, 0, f), (2, 0, n), (3, 0, 4 + 5 * n + 3), (5, 0, 2 * l), (6, 0, rh_if (d1 ≠ -1) 1 0), (7, 0, k + 2)] [] (rh_set (rh_set A1 212 k d0) 212 (k + 1) d1) P → rh1 wh YX25_isCode 1 107 [(0, 2, 210), (1, 0, f), (2, 0, n), (3, 0, 4 + 5 * n + 3), (5, 0, 2 * l), (6, 0, 1), (7, 0, k + 1)] [] (rh_set A1 212 k d0) P := fun P HP => by
        rw [hd1, show k + 2 = k + 1 + 1 by omega] at HP
        exact h_dig hh ⟨by omega, by omega⟩ hn ⟨by omega, by omega⟩ fA2 HP
      by_cases z0 : d0 = -1
      · refine ⟨0, _, _, fun P HP => HH P ?_, fun P HP => MM P ?_, .inl rfl, fA2, gB4⟩
        · rw [rh_if_f (fun z => z z0)]
          exact h_out hh ⟨by omega, by omega⟩ HP
        · rw [rh_if_f (fun z => z.1 z0)]
          exact M0 _ _ P HP
      by_cases z1 : d1 = -1
      · refine ⟨0, _, _, fun P HP => HH P ?_, fun P HP => MM P ?_, .inl rfl, fA3, gB4⟩
        · rw [rh_if_t z0]
          refine HH2 P ?_
          rw [rh_if_f (fun z => z z1)]
          exact h_out hh ⟨by omega, by omega⟩ HP
        · rw [rh_if_f (fun z => z.2 z1)]
          exact M0 _ _ P HP
      obtain ⟨v, A', B', H1, H2, H3⟩ := ih (k + 2) (rh_set (rh_set A1 212 k d0) 212 (k + 1) d1) (rh_set (rh_set B2 167 k d0) 167 (k + 1) d1) (by omega) (by omega) (fun i i0 i1 => by
        by_cases e1 : i = k + 1
        · rw [e1, rh_set_s, rh_set_s]; omega
        · rw [rh_set_j e1, rh_set_j e1]
          by_cases e0 : i = k
          · rw [e0, rh_set_s, rh_set_s]; omega
          · rw [rh_set_j e0, rh_set_j e0]
            exact D i i0 (by omega)) fA3 gB4
      refine ⟨v, A', B', fun P HP => HH P ?_, fun P HP => MM P ?_, H3⟩
      · rw [rh_if_t z0]
        refine HH2 P ?_
        rw [rh_if_t z1]
        exact H1 P HP
      · rw [rh_if_t ⟨z0, z1⟩]
        exact H2 P HP
  obtain ⟨v, A', B', H1, H2, H3, H4, H5⟩ := key (n / 2).toNat 0 A B1 (by omega) (by decide) (fun k k0 k1 => by omega) frx.rf frx.rf
  refine MK v A' B' (fun P HP => ?_) (fun P HP => ?_) H3 H4 (g1.tr (H5.w (fun c j h => .inl h)))
  · rw [rh_if_t g4]
    exact H1 P HP
  · rw [rh_if_t ⟨s, g4⟩]
    exact H2 P HP
end BarsAt
