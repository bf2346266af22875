/-! ===== LAYER 2: thin, the model's parts ===== -/
section ThinM
variable {wh wm : rhW}
theorem b01 {P : Prop} {x : Int} (e : x = rh_if P (1 : Int) 0) : 0 ≤ x ∧ x ≤ 1 := by
  rw [e, rh_if]; split <;> exact ⟨by decide, by decide⟩
theorem c_lookAround (hm : rh_ms wm) {u v : Int} (M : rhM) (hWb : M 0 17 ≤ 128) (hHb : M 0 18 ≤ 96) (hN : M 0 17 * M 0 18 ≤ 6144) (hu : 0 ≤ u ∧ u < M 0 17) (hv : 0 ≤ v ∧ v < M 0 18) :
    rC1 wm YX32_lookAround 1 [(2, 0), (0, u), (0, v)] M (fun r M' => r = 0 ∧ frx (fun a _ => a = 14) M M' ∧ M' 14 0 = inkM M (M 0 17) (M 0 18) u (v - 1) ∧ M' 14 1 = inkM M (M 0 17) (M 0 18) (u + 1) (v - 1) ∧ M' 14 2 = inkM M (M 0 17) (M 0 18) (u + 1) v ∧ M' 14 3 = inkM M (M 0 17) (M 0 18) (u + 1) (v + 1) ∧ M' 14 4 = inkM M (M 0 17) (M 0 18) u (v + 1) ∧ M' 14 5 = inkM M (M 0 17) (M 0 18) (u - 1) (v + 1) ∧ M' 14 6 = inkM M (M 0 17) (M 0 18) (u - 1) v ∧ M' 14 7 = inkM M (M 0 17) (M 0 18) (u - 1) (v - 1) ∧ M' 14 8 = M' 14 0) := by
  refine rC1.of (by decide) (LE0 rfl) ?_
  have hI : ∀ u' v' : Int, 0 ≤ u' → 0 ≤ v' → u' < M 0 17 → v' < M 0 18 → 0 ≤ v' * M 0 17 + u' ∧ v' * M 0 17 + u' < 6144 := fun u' v' a b c d => by
    have := ix_b a c b d
    rw [Int.mul_comm]
    exact ⟨by omega, by omega⟩
  refine rh1.of (rX32_lookAround_0 hm _ _ _ ?_)
  refine ⟨⟨by omega, by omega⟩, hI _ _, fun x0 e0 => ⟨b01 e0, ⟨by omega, by omega⟩, ⟨by omega, by omega⟩, hI _ _, fun x1 e1 => ⟨b01 e1, fun Ma ea => ?_⟩⟩⟩
  have k0 : x0 = inkM M (M 0 17) (M 0 18) u (v - 1) := e0.trans rh_ifd
  have k1 : x1 = inkM M (M 0 17) (M 0 18) (u + 1) (v - 1) := e1.trans rh_ifd
  clear e0 e1
  subst ea
  refine ⟨⟨by omega, by omega⟩, hI _ _, fun x2 e2 => ⟨b01 e2, ⟨by omega, by omega⟩, ⟨by omega, by omega⟩, hI _ _, fun x3 e3 => ⟨b01 e3, fun Mb eb => ?_⟩⟩⟩
  have k2 : x2 = inkM M (M 0 17) (M 0 18) (u + 1) v := e2.trans rh_ifd
  have k3 : x3 = inkM M (M 0 17) (M 0 18) (u + 1) (v + 1) := e3.trans rh_ifd
  clear e2 e3
  subst eb
  refine ⟨⟨by omega, by omega⟩, hI _ _, fun x4 e4 => ⟨b01 e4, ⟨by omega, by omega⟩, ⟨by omega, by omega⟩, hI _ _, fun x5 e5 => ⟨b01 e5, fun Mc ec => ?_⟩⟩⟩
  have k4 : x4 = inkM M (M 0 17) (M 0 18) u (v + 1) := e4.trans rh_ifd
  have k5 : x5 = inkM M (M 0 17) (M 0 18) (u - 1) (v + 1) := e5.trans rh_ifd
  clear e4 e5
  subst ec
  refine ⟨⟨by omega, by omega⟩, hI _ _, fun x6 e6 => ⟨b01 e6, ⟨by omega, by omega⟩, ⟨by omega, by omega⟩, hI _ _, fun x7 e7 => ⟨b01 e7, fun Md ed => ?_⟩⟩⟩
  have k6 : x6 = inkM M (M 0 17) (M 0 18) (u - 1) v := e6.trans rh_ifd
  have k7 : x7 = inkM M (M 0 17) (M 0 18) (u - 1) (v - 1) := e7.trans rh_ifd
  clear e6 e7
  have d0 : Md 14 0 = x0 := by rw [ed]; simp [rh_sets]
  refine ⟨by rw [d0, k0]; unfold inkM; split <;> exact ⟨by decide, by decide⟩, rfl, ?_, ?_, ?_, ?_, ?_, ?_, ?_, ?_, ?_, ?_⟩
  · rw [ed]
    have F : frx (fun a _ => a = (14 : Int)) M M := frx.rf
    exact ((((((((F.st rfl).st rfl).st rfl).st rfl).st rfl).st rfl).st rfl).st rfl).st rfl
  · rw [rh_set_j (by decide), d0, k0]
  · rw [← k1, ed]; simp [rh_sets]
  · rw [← k2, ed]; simp [rh_sets]
  · rw [← k3, ed]; simp [rh_sets]
  · rw [← k4, ed]; simp [rh_sets]
  · rw [← k5, ed]; simp [rh_sets]
  · rw [← k6, ed]; simp [rh_sets]
  · rw [← k7, ed]; simp [rh_sets]
  · rw [rh_set_s, rh_set_j (by decide)]
/-- the eight neighbours -/
def nbr (I : Int → Int → Int) (u v : Int) : Int → Int := fun d => I (u + rh_tb 4 (d % 8)) (v + rh_tb 5 (d % 8))
theorem thM_cg {a b : Int → Int} (h : ∀ j : Int, 0 ≤ j → j < 9 → a j = b j) (m : Int) : thM a m = thM b m := by
  unfold thM
  rw [thc_cg 8 (fun j j0 j1 => h j j0 (by omega)), thx_cg 8 (fun j j0 j1 => h j j0 (by omega)), h 0 (by omega) (by omega), h 2 (by omega) (by omega), h 4 (by omega) (by omega), h 6 (by omega) (by omega), h (if m ≠ 0 then 4 else 6) (by split <;> omega) (by split <;> omega), h (if m ≠ 0 then 2 else 0) (by split <;> omega) (by split <;> omega)]
theorem c_isThin (hm : rh_ms wm) {u v m : Int} (M : rhM) (hWb : M 0 17 ≤ 128) (hHb : M 0 18 ≤ 96) (hN : M 0 17 * M 0 18 ≤ 6144) (hu : 0 ≤ u ∧ u < M 0 17) (hv : 0 ≤ v ∧ v < M 0 18) :
    rC1 wm YX32_isThin 2 [(2, 0), (0, u), (0, v), (0, m)] M (fun r M' => r = thM (nbr (inkM M (M 0 17) (M 0 18)) u v) m ∧ frx (fun a _ => a = 14) M M') := by
  refine rC1.of (by decide) (LE0 rfl) ?_
  refine rh1.of (rX32_isThin_0 hm _ _ _ _ ?_)
  obtain ⟨r, M1, E1, -, f1, k0, k1, k2, k3, k4, k5, k6, k7, k8⟩ := c_lookAround hm M hWb hHb hN hu hv
  refine rh1.s (vX32_isThin_3 hm E1 (LE0 rfl)) ?_
  refine rh1.of (rX32_isThin_6 hm _ _ ?_)
  have hn : ∀ j : Int, 0 ≤ j → j < 9 → nbr (inkM M (M 0 17) (M 0 18)) u v j = M1 14 j := fun j j0 j1 => by
    have : j = 0 ∨ j = 1 ∨ j = 2 ∨ j = 3 ∨ j = 4 ∨ j = 5 ∨ j = 6 ∨ j = 7 ∨ j = 8 := (by omega)
    unfold nbr
    rcases this with e | e | e | e | e | e | e | e | e <;> rw [e]
    · rw [k0, show rh_tb 4 (0 % 8) = 0 from rfl, show rh_tb 5 (0 % 8) = -1 from rfl, Int.add_zero]; rfl
    · rw [k1, show rh_tb 4 (1 % 8) = 1 from rfl, show rh_tb 5 (1 % 8) = -1 from rfl]; rfl
    · rw [k2, show rh_tb 4 (2 % 8) = 1 from rfl, show rh_tb 5 (2 % 8) = 0 from rfl, Int.add_zero]
    · rw [k3, show rh_tb 4 (3 % 8) = 1 from rfl, show rh_tb 5 (3 % 8) = 1 from rfl]
    · rw [k4, show rh_tb 4 (4 % 8) = 0 from rfl, show rh_tb 5 (4 % 8) = 1 from rfl, Int.add_zero]
    · rw [k5, show rh_tb 4 (5 % 8) = -1 from rfl, show rh_tb 5 (5 % 8) = 1 from rfl]; rfl
    · rw [k6, show rh_tb 4 (6 % 8) = -1 from rfl, show rh_tb 5 (6 % 8) = 0 from rfl, Int.add_zero]; rfl
    · rw [k7, show rh_tb 4 (7 % 8) = -1 from rfl, show rh_tb 5 (7 % 8) = -1 from rfl]; rfl
    · rw [k8, k0, show rh_tb 4 (8 % 8) = 0 from rfl, show rh_tb 5 (8 % 8) = -1 from rfl, Int.add_zero]; rfl
  rw [thM_cg hn]
  clear k0 k1 k2 k3 k4 k5 k6 k7 k8 hn
  have key : ∀ (vq : Nat) (t : Nat), ((8 : Int) - t).toNat = vq → ((t : Int) ≤ 8) → rh1 wm YX32_isThin 2 15 [(0, 2, 0), (3, 0, m), (4, 0, thc (M1 14) t), (5, 0, thx (M1 14) t), (6, 0, (t : Int))] [] M1 (fun r M' => r = thM (M1 14) m ∧ frx (fun a _ => a = 14) M M') := by
    intro vq
    induction vq using Nat.strongRecOn with
    | ind vq ih =>
      intro t hvq t1
      refine rh1.of (rX32_isThin_15 hm _ _ _ _ _ ?_)
      refine ⟨fun c => ⟨⟨by omega, by omega⟩, fun n en => ?_⟩, fun c => ?_⟩
      · have b1 := thc_b (M1 14) (t + 1)
        have b2 := thx_b (M1 14) (t + 1)
        rw [rh_ifd] at en
        refine ⟨by rw [show n = thc (M1 14) (t + 1) from en]; exact ⟨by omega, by omega⟩, ⟨by omega, by omega⟩, fun _ => ⟨by omega, by omega⟩, fun q eq => ?_⟩
        rw [rh_ifd] at eq
        refine ⟨by rw [show q = thx (M1 14) (t + 1) from eq]; exact ⟨by omega, by omega⟩, ⟨by omega, by omega⟩, ?_⟩
        have := ih _ (by omega) (t + 1) rfl (by omega)
        rw [en, eq]
        exact this
      · have ht : t = 8 := (by omega)
        subst ht
        have fin : ∀ {p q : Int} {P Q : Prop}, p = rh_if P (1 : Int) 0 → q = rh_if Q (1 : Int) 0 → (P ↔ (M1 14 0 ≠ 0 ∧ M1 14 2 ≠ 0 ∧ M1 14 (if m ≠ 0 then 4 else 6) ≠ 0)) → (Q ↔ (M1 14 (if m ≠ 0 then 2 else 0) ≠ 0 ∧ M1 14 4 ≠ 0 ∧ M1 14 6 ≠ 0)) → rh_if (2 ≤ thc (M1 14) 8 ∧ (thc (M1 14) 8 ≤ 6 ∧ (thx (M1 14) 8 = 1 ∧ (p = 0 ∧ q = 0)))) (1 : Int) 0 = thM (M1 14) m := by
          intro p q P Q ep eq hP hQ
          rw [rh_ifd]
          unfold thM
          have hp : p = 0 ↔ ¬ P := by
            by_cases z : P
            · rw [ep, rh_if_t z]; exact ⟨fun y => absurd y (by decide), fun y => absurd z y⟩
            · rw [ep, rh_if_f z]; exact ⟨fun _ => z, fun _ => rfl⟩
          have hq : q = 0 ↔ ¬ Q := by
            by_cases z : Q
            · rw [eq, rh_if_t z]; exact ⟨fun y => absurd y (by decide), fun y => absurd z y⟩
            · rw [eq, rh_if_f z]; exact ⟨fun _ => z, fun _ => rfl⟩
          refine ite_congr (propext ?_) (fun _ => rfl) (fun _ => rfl)
          rw [hp, hq, hP, hQ]
        refine ⟨fun z p ep => ⟨fun _ q eq => ⟨fin ep eq ?_ ?_, f1⟩, fun y => absurd z y⟩, fun z p ep => ⟨fun y => absurd y z, fun _ q eq => ⟨fin ep eq ?_ ?_, f1⟩⟩⟩
        · rw [if_pos z]
        · rw [if_pos z]
        · rw [if_neg z]
        · rw [if_neg z]
  exact key _ 0 rfl (by omega)
/-- pixel k goes in the half m -/
def thk (M : rhM) (W H m k : Int) : Prop := M 11 k ≠ 0 ∧ thM (nbr (inkM M W H) (k % W) (k / W)) m ≠ 0
theorem c_thinHalf (hm : rh_ms wm) {m W H : Int} (M : rhM) (hW : M 0 17 = W) (hH : M 0 18 = H) (hW0 : 0 < W) (hWb : W ≤ 128) (hHb : H ≤ 96) (hN0 : 0 ≤ W * H) (hN : W * H ≤ 6144) :
    rC1 wm YX32_thinHalf 3 [(2, 0), (0, m)] M (fun r M' => (0 ≤ r ∧ r ≤ W * H) ∧ frx (fun a _ => a = 10 ∨ a = 11 ∨ a = 14) M M' ∧ (0 < r ↔ ∃ k, (0 ≤ k ∧ k < W * H) ∧ thk M W H m k) ∧ ∀ k, 0 ≤ k → k < W * H → (thk M W H m k → M' 11 k = 0) ∧ (¬ thk M W H m k → M' 11 k = M 11 k)) := by
  refine rC1.of (by decide) (LE0 rfl) ?_
  refine rh1.of (rX32_thinHalf_0 hm _ _ ?_)
  have hT : ∀ M' : rhM, M' 11 = M 11 → ∀ k, thk M' W H m k ↔ thk M W H m k := fun M' e k => by
    unfold thk inkM
    rw [e]
  have key : ∀ (vq : Nat) (k n : Int) (M' : rhM), (W * H - k).toNat = vq → (0 ≤ k) → (k ≤ W * H) → (0 ≤ n) → (n ≤ k) → (frx (fun a _ => a = 10 ∨ a = 14) M M') → (∀ i, 0 ≤ i → i < n → (0 ≤ M' 10 i ∧ M' 10 i < k) ∧ thk M W H m (M' 10 i)) → (∀ j, 0 ≤ j → j < k → thk M W H m j → ∃ i, 0 ≤ i ∧ i < n ∧ M' 10 i = j) → rh1 wm YX32_thinHalf 3 4 [(0, 2, 0), (1, 0, m), (2, 0, n), (3, 0, k)] [] M' (fun r M' => (0 ≤ r ∧ r ≤ W * H) ∧ frx (fun a _ => a = 10 ∨ a = 11 ∨ a = 14) M M' ∧ (0 < r ↔ ∃ k, (0 ≤ k ∧ k < W * H) ∧ thk M W H m k) ∧ ∀ k, 0 ≤ k → k < W * H → (thk M W H m k → M' 11 k = 0) ∧ (¬ thk M W H m k → M' 11 k = M 11 k)) := by
    intro vq
    induction vq using Nat.strongRecOn with
    | ind vq ih =>
      intro k n M' hvq k0 k1 n0 n1 f h1 h2
      replace h1 := Hid.mk h1
      replace h2 := Hid.mk h2
      have w17 : M' 0 17 = W := by rw [f 0 17 (by omega), hW]
      have w18 : M' 0 18 = H := by rw [f 0 18 (by omega), hH]
      have w11 : M' 11 = M 11 := f.cell (fun j => (by omega))
      refine rh1.of (rX32_thinHalf_4 hm _ _ _ _ ?_)
      rw [w17, w18, w11]
      refine ⟨⟨by omega, by omega⟩, fun c => ⟨⟨by omega, by omega⟩, fun z => ⟨⟨by omega, by omega⟩, ⟨by omega, by omega⟩, ?_⟩, fun z => ⟨⟨by omega, by omega⟩, ?_⟩⟩, fun c => ?_⟩
      · have db := dm_b hW0 k0 c
        obtain ⟨r, M1, E1, er, f1⟩ := c_isThin hm (u := k % W) (v := k / W) (m := m) M' (by rw [w17]; exact hWb) (by rw [w18]; exact hHb) (by rw [w17, w18]; exact hN) (by rw [w17]; exact db.1) (by rw [w18]; exact db.2)
        rw [w17, w18] at er
        have hk : r ≠ 0 ↔ thk M W H m k := by
          refine Iff.trans ?_ (hT M' w11 k)
          unfold thk
          rw [er, w11]
          exact ⟨fun y => ⟨z, y⟩, fun y => y.2⟩
        refine rh1.s (vX32_thinHalf_40 hm E1 (LE0 rfl)) ?_
        refine rh1.of (rX32_thinHalf_43 hm _ _ _ _ _ ?_)
        refine ⟨fun y => ⟨⟨by omega, by omega⟩, ⟨by omega, by omega⟩, ⟨by omega, by omega⟩, ?_⟩, fun y => ⟨⟨by omega, by omega⟩, ?_⟩⟩
        · refine ih _ (by omega) (k + 1) (n + 1) _ rfl (by omega) (by omega) (by omega) (by omega) ((f.tr (f1.w (fun a j h => .inr h))).st (.inl rfl)) (fun i i0 i1 => ?_) (fun j j0 j1 hj => ?_)
          · by_cases q : i = n
            · rw [q, rh_set_s]
              exact ⟨⟨by omega, by omega⟩, hk.mp y⟩
            · rw [rh_set_j q, f1 10 i (by omega)]
              have := h1.out i i0 (by omega)
              exact ⟨⟨this.1.1, (by omega)⟩, this.2⟩
          · by_cases q : j = k
            · exact ⟨n, n0, (by omega), by rw [rh_set_s, q]⟩
            · obtain ⟨i, i0, i1, i2⟩ := h2.out j j0 (by omega) hj
              exact ⟨i, i0, (by omega), by rw [rh_set_j (by omega), f1 10 i (by omega), i2]⟩
        · refine ih _ (by omega) (k + 1) n _ rfl (by omega) (by omega) (by omega) (by omega) (f.tr (f1.w (fun a j h => .inr h))) (fun i i0 i1 => ?_) (fun j j0 j1 hj => ?_)
          · rw [f1 10 i (by omega)]
            have := h1.out i i0 (by omega)
            exact ⟨⟨this.1.1, (by omega)⟩, this.2⟩
          · by_cases q : j = k
            · exact absurd (hk.mpr (q ▸ hj)) y
            · obtain ⟨i, i0, i1, i2⟩ := h2.out j j0 (by omega) hj
              exact ⟨i, i0, i1, by rw [f1 10 i (by omega), i2]⟩
      · refine ih _ (by omega) (k + 1) n _ rfl (by omega) (by omega) (by omega) (by omega) f (fun i i0 i1 => ?_) (fun j j0 j1 hj => ?_)
        · have := h1.out i i0 (by omega)
          exact ⟨⟨this.1.1, (by omega)⟩, this.2⟩
        · by_cases q : j = k
          · exact absurd (q ▸ hj.1) z
          · exact h2.out j j0 (by omega) hj
      · have hk : k = W * H := (by omega)
        have hr : 0 < n ↔ ∃ k, (0 ≤ k ∧ k < W * H) ∧ thk M W H m k := by
          constructor
          · intro y
            have := h1.out 0 (by omega) y
            exact ⟨_, ⟨this.1.1, (by omega)⟩, this.2⟩
          · intro ⟨j, j0, j1⟩
            obtain ⟨i, i0, i1, -⟩ := h2.out j j0.1 (by omega) j1
            omega
        replace hr := Hid.mk hr
        have key2 : ∀ (vq : Nat) (t : Int) (M2 : rhM), (n - t).toNat = vq → (0 ≤ t) → (t ≤ n) → (frx (fun a _ => a = 11) M' M2) → (∀ i, 0 ≤ i → i < t → M2 11 (M' 10 i) = 0) → (∀ j, (∀ i, 0 ≤ i → i < t → M' 10 i ≠ j) → M2 11 j = M 11 j) → rh1 wm YX32_thinHalf 3 64 [(0, 2, 0), (2, 0, n), (3, 0, t)] [] M2 (fun r M' => (0 ≤ r ∧ r ≤ W * H) ∧ frx (fun a _ => a = 10 ∨ a = 11 ∨ a = 14) M M' ∧ (0 < r ↔ ∃ k, (0 ≤ k ∧ k < W * H) ∧ thk M W H m k) ∧ ∀ k, 0 ≤ k → k < W * H → (thk M W H m k → M' 11 k = 0) ∧ (¬ thk M W H m k → M' 11 k = M 11 k)) := by
          intro vq
          induction vq using Nat.strongRecOn with
          | ind vq ih2 =>
            intro t M2 hvq t0 t1 g g1 g2
            replace g1 := Hid.mk g1
            replace g2 := Hid.mk g2
            refine rh1.of (rX32_thinHalf_64 hm _ _ _ ?_)
            rw [g 10 t (by omega)]
            refine ⟨fun y => ?_, fun y => ⟨⟨by omega, by omega⟩, (f.w (fun a j h => by omega)).tr (g.w (fun a j h => by omega)), hr.out, fun j j0 j1 => ⟨fun hj => ?_, fun hj => ?_⟩⟩⟩
            · have b := (h1.out t t0 y).1
              refine ⟨⟨by omega, by omega⟩, ⟨by omega, by omega⟩, ⟨by omega, by omega⟩, ih2 _ (by omega) (t + 1) _ rfl (by omega) (by omega) (g.st rfl) (fun i i0 i1 => ?_) (fun j hj => ?_)⟩
              · by_cases q : M' 10 i = M' 10 t
                · rw [q, rh_set_s]
                · rw [rh_set_j q]
                  exact g1.out i i0 (by
                    by_cases e : i = t
                    · exact absurd (e ▸ rfl) q
                    · omega)
              · rw [rh_set_j (fun e => hj t t0 (by omega) e.symm)]
                exact g2.out j (fun i i0 i1 => hj i i0 (by omega))
            · obtain ⟨i, i0, i1, i2⟩ := h2.out j j0 (by omega) hj
              rw [← i2]
              exact g1.out i i0 (by omega)
            · exact g2.out j (fun i i0 i1 e => hj (e ▸ (h1.out i i0 (by omega)).2))
        exact key2 _ 0 M' rfl (by omega) n0 frx.rf (fun i i0 i1 => by omega) (fun j _ => by rw [w11])
  exact key _ 0 0 M rfl (by omega) hN0 (by omega) (by omega) frx.rf (fun i i0 i1 => by omega) (fun j j0 j1 => by omega)
end ThinM
