/-! ===== LAYER 2: thin ===== -/
section Thin
variable {wh wm : rhW}
def thb (a : Int → Int) : Nat → Int
  | 0 => 0
  | t + 1 => rh_or (thb a t) (if a t ≠ 0 then rh_shl 1 t else 0)
def thc (a : Int → Int) : Nat → Int
  | 0 => 0
  | t + 1 => thc a t + if a t ≠ 0 then (1 : Int) else 0
def tht (x : Int) : Nat → Int
  | 0 => 0
  | t + 1 => tht x t + if ((rh_and (rh_shr x t) 1) = 0) ∧ ((rh_and (rh_shr x (rh_and ((t : Int) + 1) 7)) 1) = 1) then (1 : Int) else 0
def thx (a : Int → Int) : Nat → Int
  | 0 => 0
  | t + 1 => thx a t + if a t = 0 ∧ a ((t : Int) + 1) ≠ 0 then (1 : Int) else 0
def thH (a : Int → Int) (m : Int) : Int := if 2 ≤ thc a 8 ∧ (thc a 8 ≤ 6 ∧ (tht (thb a 8) 8 = 1 ∧ (rh_and (thb a 8) (if m = 0 then (21 : Int) else 69) ≠ (if m = 0 then (21 : Int) else 69) ∧ rh_and (thb a 8) (if m = 0 then (84 : Int) else 81) ≠ (if m = 0 then (84 : Int) else 81)))) then (1 : Int) else 0
def thM (a : Int → Int) (m : Int) : Int := if 2 ≤ thc a 8 ∧ (thc a 8 ≤ 6 ∧ (thx a 8 = 1 ∧ (¬ (a 0 ≠ 0 ∧ a 2 ≠ 0 ∧ a (if m ≠ 0 then 4 else 6) ≠ 0) ∧ ¬ (a (if m ≠ 0 then 2 else 0) ≠ 0 ∧ a 4 ≠ 0 ∧ a 6 ≠ 0)))) then (1 : Int) else 0
theorem thb_cg {a b : Int → Int} : ∀ t : Nat, (∀ j : Int, 0 ≤ j → j < t → a j = b j) → thb a t = thb b t
  | 0, _ => rfl
  | t + 1, h => by
    simp only [thb]
    rw [thb_cg t (fun j x y => h j x (by omega)), h t (by omega) (by omega)]
theorem thc_cg {a b : Int → Int} : ∀ t : Nat, (∀ j : Int, 0 ≤ j → j < t → a j = b j) → thc a t = thc b t
  | 0, _ => rfl
  | t + 1, h => by
    simp only [thc]
    rw [thc_cg t (fun j x y => h j x (by omega)), h t (by omega) (by omega)]
theorem thx_cg {a b : Int → Int} : ∀ t : Nat, (∀ j : Int, 0 ≤ j → j < (t : Int) + 1 → a j = b j) → thx a t = thx b t
  | 0, _ => rfl
  | t + 1, h => by
    simp only [thx]
    rw [thx_cg t (fun j x y => h j x (by omega)), h t (by omega) (by omega), h ((t : Int) + 1) (by omega) (by omega)]
theorem thc_b (a : Int → Int) : ∀ t : Nat, 0 ≤ thc a t ∧ thc a t ≤ t
  | 0 => by simp [thc]
  | t + 1 => by
    have := thc_b a t
    simp only [thc]
    split <;> omega
theorem tht_b (a : Int) : ∀ t : Nat, 0 ≤ tht a t ∧ tht a t ≤ t
  | 0 => by simp [tht]
  | t + 1 => by
    have := tht_b a t
    simp only [tht]
    split <;> omega
theorem thx_b (a : Int → Int) : ∀ t : Nat, 0 ≤ thx a t ∧ thx a t ≤ t
  | 0 => by simp [thx]
  | t + 1 => by
    have := thx_b a t
    simp only [thx]
    split <;> omega
def thl (l : List Bool) : Int → Int := fun j => if l.getD j.toNat false = true then 1 else 0
theorem th_all : ∀ b0 b1 b2 b3 b4 b5 b6 b7 : Bool, thH (thl [b0, b1, b2, b3, b4, b5, b6, b7, b0]) 0 = thM (thl [b0, b1, b2, b3, b4, b5, b6, b7, b0]) 1 ∧ thH (thl [b0, b1, b2, b3, b4, b5, b6, b7, b0]) 1 = thM (thl [b0, b1, b2, b3, b4, b5, b6, b7, b0]) 0 := by
  decide +kernel
theorem th_eq {a b : Int → Int} (h : ∀ j : Int, 0 ≤ j → j < 8 → a j = b j ∧ (a j = 0 ∨ a j = 1)) (h8 : b 8 = b 0) : thH a 0 = thM b 1 ∧ thH a 1 = thM b 0 := by
  have q : ∀ j : Int, 0 ≤ j → j < 9 → b j = thl [decide (b 0 = 1), decide (b 1 = 1), decide (b 2 = 1), decide (b 3 = 1), decide (b 4 = 1), decide (b 5 = 1), decide (b 6 = 1), decide (b 7 = 1), decide (b 0 = 1)] j := by
    have s : ∀ z : Int, z = 0 ∨ z = 1 → z = if decide (z = 1) = true then 1 else 0 := fun z hz => by rcases hz with rfl | rfl <;> rfl
    have hb : ∀ j : Int, 0 ≤ j → j < 8 → b j = 0 ∨ b j = 1 := fun j j0 j1 => by
      rw [← (h j j0 j1).1]; exact (h j j0 j1).2
    intro j j0 j1
    have : j = 0 ∨ j = 1 ∨ j = 2 ∨ j = 3 ∨ j = 4 ∨ j = 5 ∨ j = 6 ∨ j = 7 ∨ j = 8 := (by omega)
    rcases this with e | e | e | e | e | e | e | e | e <;> rw [e]
    · exact s _ (hb 0 (by omega) (by omega))
    · exact s _ (hb 1 (by omega) (by omega))
    · exact s _ (hb 2 (by omega) (by omega))
    · exact s _ (hb 3 (by omega) (by omega))
    · exact s _ (hb 4 (by omega) (by omega))
    · exact s _ (hb 5 (by omega) (by omega))
    · exact s _ (hb 6 (by omega) (by omega))
    · exact s _ (hb 7 (by omega) (by omega))
    · rw [h8]; exact s _ (hb 0 (by omega) (by omega))
  have t := th_all (decide (b 0 = 1)) (decide (b 1 = 1)) (decide (b 2 = 1)) (decide (b 3 = 1)) (decide (b 4 = 1)) (decide (b 5 = 1)) (decide (b 6 = 1)) (decide (b 7 = 1))
  generalize thl [decide (b 0 = 1), decide (b 1 = 1), decide (b 2 = 1), decide (b 3 = 1), decide (b 4 = 1), decide (b 5 = 1), decide (b 6 = 1), decide (b 7 = 1), decide (b 0 = 1)] = c at q t
  have hH : ∀ m, thH a m = thH c m := fun m => by
    have e : ∀ j : Int, 0 ≤ j → j < (8 : Nat) → a j = c j := fun j j0 j1 => by rw [(h j j0 j1).1, q j j0 (by omega)]
    unfold thH
    rw [thb_cg 8 e, thc_cg 8 e]
  have hM : ∀ m, thM b m = thM c m := fun m => by
    unfold thM
    rw [thc_cg 8 (fun j j0 j1 => q j j0 (by omega)), thx_cg 8 (fun j j0 j1 => q j j0 (by omega)), q 0 (by omega) (by omega), q 2 (by omega) (by omega), q 4 (by omega) (by omega), q 6 (by omega) (by omega), q (if m ≠ 0 then 4 else 6) (by split <;> omega) (by split <;> omega), q (if m ≠ 0 then 2 else 0) (by split <;> omega) (by split <;> omega)]
  rw [hH, hH, hM, hM]
  exact t
/-- ink at a place: house, model -/
def inkH (M : rhM) (x W H u v : Int) : Int := if (0 ≤ u ∧ (u < W ∧ (0 ≤ v ∧ v < H))) ∧ rh_and (M (x + 1) (W * v + u)) 255 < 128 then (1 : Int) else 0
def inkM (M : rhM) (W H u v : Int) : Int := if 0 ≤ u ∧ (0 ≤ v ∧ (u < W ∧ (v < H ∧ M 11 (v * W + u) ≠ 0))) then (1 : Int) else 0
theorem tb45 (d : Int) (d0 : 0 ≤ d) (d1 : d < 8) : (-1 ≤ rh_tb 4 d ∧ rh_tb 4 d ≤ 1) ∧ (-1 ≤ rh_tb 5 d ∧ rh_tb 5 d ≤ 1) := by
  have : d = 0 ∨ d = 1 ∨ d = 2 ∨ d = 3 ∨ d = 4 ∨ d = 5 ∨ d = 6 ∨ d = 7 := (by omega)
  rcases this with e | e | e | e | e | e | e | e <;> rw [e] <;> decide
theorem c_isThinned (hh : rh_hs wh) {x u v m W H : Int} (hx : rh_bl wh 5 x 0) (M : rhM) (hW : M x 1 = W) (hH : M x 2 = H) (hWb : W ≤ 128) (hHb : H ≤ 96) (hN : W * H ≤ 6144) (hu : 0 ≤ u ∧ u < W) (hv : 0 ≤ v ∧ v < H) :
    eC wh YX1_isThinned 2 [(2, x), (0, u), (0, v), (0, m)] M (thH (fun d => inkH M x W H (u + rh_tb 4 d) (v + rh_tb 5 d)) m) M := by
  refine eC.of1 (rC1.of (by decide) (LE0 rfl) ?_)
  refine rh1.of (rX1_isThinned_0 hh _ _ _ _ _ hx ?_)
  generalize ha : (fun d => inkH M x W H (u + rh_tb 4 d) (v + rh_tb 5 d)) = a
  have key : ∀ (vq : Nat) (t : Nat), ((8 : Int) - t).toNat = vq → ((t : Int) ≤ 8) → rh1 wh YX1_isThinned 2 9 [(0, 2, x), (1, 0, u), (2, 0, v), (3, 0, m), (4, 0, thb a t), (5, 0, thc a t), (6, 0, (t : Int))] [] M (fun r M' => r = thH a m ∧ M' = M) := by
    intro vq
    induction vq using Nat.strongRecOn with
    | ind vq ih =>
      intro t hvq t1
      refine rh1.of (rX1_isThinned_9 hh _ _ _ _ _ _ _ _ hx ?_)
      rw [hW, hH]
      refine ⟨fun c => ?_, fun c => ?_⟩
      · have tb := tb45 (t : Int) (by omega) c
        have cb := thc_b a (t + 1)
        refine ⟨⟨by omega, by omega⟩, ⟨by omega, by omega⟩, ⟨by omega, by omega⟩, ⟨by omega, by omega⟩, fun z => ?_, fun z => ?_, fun s es => fun q eq n en => ?_⟩
        · have := ix_b z.1 z.2.1 z.2.2.1 z.2.2.2
          exact ⟨by omega, by omega⟩
        · have := ix_b z.1 z.2.1 z.2.2.1 z.2.2.2
          exact ⟨by omega, by omega⟩
        · have es2 : s = a (t : Int) := by rw [es, ← ha, rh_ifd]; rfl
          rw [es2, rh_ifd] at eq en
          refine ⟨by rw [show n = thc a (t + 1) from en]; exact ⟨by omega, by omega⟩, ⟨by omega, by omega⟩, ?_⟩
          have := ih _ (by omega) (t + 1) rfl (by omega)
          rw [eq, en]
          exact this
      · have ht : t = 8 := (by omega)
        subst ht
        have key2 : ∀ (vq : Nat) (t : Nat), ((8 : Int) - t).toNat = vq → ((t : Int) ≤ 8) → rh1 wh YX1_isThinned 2 83 [(3, 0, m), (4, 0, thb a 8), (5, 0, thc a 8), (6, 0, tht (thb a 8) t), (7, 0, (t : Int))] [] M (fun r M' => r = thH a m ∧ M' = M) := by
          intro vq
          induction vq using Nat.strongRecOn with
          | ind vq ih2 =>
            intro t hvq t1
            refine rh1.of (rX1_isThinned_83 hh _ _ _ _ _ _ ?_)
            refine ⟨fun c => ?_, fun c => ?_⟩
            · have cb := tht_b (thb a 8) (t + 1)
              intro s es
              rw [rh_ifd] at es
              refine ⟨by rw [show s = tht (thb a 8) (t + 1) from es]; exact ⟨by omega, by omega⟩, ⟨by omega, by omega⟩, ?_⟩
              have := ih2 _ (by omega) (t + 1) rfl (by omega)
              rw [es]
              exact this
            · have ht : t = 8 := (by omega)
              subst ht
              intro q1 e1 q2 e2
              rw [e1, e2, rh_ifd, rh_ifd, rh_ifd]
              exact ⟨rfl, rfl⟩
        exact key2 _ 0 rfl (by omega)
  exact key _ 0 rfl (by omega)
end Thin
