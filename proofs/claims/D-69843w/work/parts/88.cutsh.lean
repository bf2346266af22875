/-! ===== LAYER 2: the columns of a word, the house ===== -/
section CutsH
variable {wh wm : rhW}
/-- the word at hand -/
def CtH (M : rhM) (x w W H : Int) (ink : Int → Int) : Prop := M 25 0 = x ∧ M 25 1 = w ∧ M x 1 = W ∧ ∀ k, 0 ≤ k → k < W * H → (M (x + 2) k ≠ -1 → 0 ≤ M (x + 2) k ∧ M (x + 2) k < 300) ∧ ((M (x + 2) k ≠ -1 ∧ M (x + 32) (M (x + 2) k) = w) ↔ ink k ≠ 0)
theorem CtH.fx {M M' : rhM} {x w W H : Int} {ink : Int → Int} (h : CtH M x w W H ink) (h0 : M' 25 0 = M 25 0) (h1 : M' 25 1 = M 25 1) (h2 : M' x 1 = M x 1) (h3 : M' (x + 2) = M (x + 2)) (h4 : M' (x + 32) = M (x + 32)) : CtH M' x w W H ink := by
  unfold CtH at h ⊢
  rw [h0, h1, h2, h3, h4]
  exact h
theorem c_isInk (hh : rh_hs wh) {x w W H u v : Int} {ink : Int → Int} (hx : rh_bl wh 0 x 0) (M : rhM) (hc : CtH M x w W H ink) (hW : 0 ≤ W) (hN : W * H ≤ 6144) (u0 : 0 ≤ u) (u1 : u < W) (v0 : 0 ≤ v) (v1 : v < H) :
    eC wh YX16_isInk 0 [(2, 25), (0, u), (0, v)] M (rh_if (ink (W * v + u) ≠ 0) 1 0) M := by
  obtain ⟨h0, h1, h2, h3⟩ := hc
  have kb := mul_lt u0 u1 v0 v1
  have k0 := Int.mul_nonneg hW v0
  obtain ⟨q1, q2⟩ := h3 (W * v + u) (by omega) kb
  refine eC.of1 (rC1.of (by decide) (LE0 rfl) ?_)
  refine rh1.of (rX16_isInk_0 hh _ _ _ ?_)
  rw [h0, h2]
  refine ⟨hx, ⟨by omega, by omega⟩, ?_⟩
  rintro _ rfl
  refine ⟨q1, ?_, rfl⟩
  rw [h1]
  exact rh_if_cg q2
theorem c_findRuns (hh : rh_hs wh) {W : Int} {a b : Nat} {c : Int → Int} (M : rhM) (hab : a ≤ b) (hbW : (b : Int) ≤ 128) (hc : ∀ i, 0 ≤ c i) (hM : ∀ u, 0 ≤ u → u < 132 → M 26 u = c u) (ha : ∀ j : Int, 0 ≤ j → j < a → c j = 0) :
    rC1 wh YX16_findRuns 0 [(2, 25), (0, (a : Int)), (0, (b : Int))] M (fun r M' => frx (fun d j => (d = 25 ∧ j = 8) ∨ d = 29 ∨ d = 30) M M' ∧ M' 25 8 = rnc c b ∧ ∀ r, 0 ≤ r → r < rnc c b → M' 29 r = rnf c r b ∧ M' 30 r = rne c r b) := by
  refine rC1.of (by decide) (LE0 rfl) ?_
  refine rh1.of (rX16_findRuns_0 hh _ _ _ ?_)
  have r0 := rnc_0 (c := c) (a := a) ha
  have key : ∀ (vq : Nat) (k : Nat) (M2 : rhM), ((b : Int) - k).toNat = vq → (a ≤ k) → (k ≤ b) → (frx (fun d j => (d = 25 ∧ j = 8) ∨ d = 29 ∨ d = 30) M M2) → (M2 25 8 = rnc c k) → ((∀ r, 0 ≤ r → r < rnc c k → M2 29 r = rnf c r k ∧ M2 30 r = rne c r k)) → rh1 wh YX16_findRuns 0 7 [(0, 2, 25), (1, 0, (a : Int)), (2, 0, (b : Int)), (3, 0, (k : Int))] [] M2 (fun r M' => frx (fun d j => (d = 25 ∧ j = 8) ∨ d = 29 ∨ d = 30) M M' ∧ M' 25 8 = rnc c b ∧ ∀ r, 0 ≤ r → r < rnc c b → M' 29 r = rnf c r b ∧ M' 30 r = rne c r b) := by
    intro vq
    induction vq using Nat.strongRecOn with
    | ind vq ih =>
      intro k M2 hvq k0 k1 f h8 hr
      have eK : (k : Int) + 1 = ((k + 1 : Nat) : Int) := (by omega)
      have rb := rnc_b hc k
      have rb' := rnc_b hc (k + 1)
      have wb := rnw_b (c := c) k
      have wb' := rnw_b (c := c) (k + 1)
      have ew : rnw c (k + 1) = rh_if (0 < c k) 1 0 := rfl
      have ec : rnc c (k + 1) = rnc c k + rh_if (rnb c k) 1 0 := rfl
      replace hr := Hid.mk hr
      refine rh1.of (rX16_findRuns_7 hh _ _ _ _ ?_)
      refine ⟨fun z => ?_, fun z => ⟨f, by rw [h8, show k = b by omega], by rw [show b = k by omega]; exact hr.out⟩⟩
      have c26 : M2 26 k = c k := by rw [f _ _ (by omega), hM k (by omega) (by omega)]
      have c26' : (k : Int) ≠ a → M2 26 ((k : Int) - 1) = c ((k : Int) - 1) := fun y => by rw [f _ _ (by omega), hM _ (by omega) (by omega)]
      rw [c26, h8]
      refine ⟨⟨by omega, by omega⟩, fun q => ?_, fun q => ?_⟩
      · rw [rh_if_t q] at ew
        refine ⟨fun _ => ⟨by omega, by omega⟩, fun y => ?_, fun y => ?_⟩
        · have hb : rnb c k := by
            rcases y with y | y
            · refine ⟨q, ?_⟩
              by_cases e : k = 0
              · exact .inl (by rw [e]; rfl)
              · exact .inr (ha _ (by omega) (by omega))
            · by_cases e : (k : Int) = a
              · refine ⟨q, ?_⟩
                by_cases e' : k = 0
                · exact .inl (by rw [e']; rfl)
                · exact .inr (ha _ (by omega) (by omega))
              · rw [c26' e] at y; exact ⟨q, .inr y⟩
          rw [rh_if_t hb] at ec
          refine ⟨⟨by omega, by omega⟩, ⟨by omega, by omega⟩, ?_⟩
          rintro _ rfl
          simp (disch := omega) only [rh_set_a, rh_set_s, c26]
          refine ⟨⟨by omega, by omega⟩, fun _ => ⟨⟨by omega, by omega⟩, ⟨by omega, by omega⟩, ⟨by omega, by omega⟩, ?_⟩, fun z => absurd q z⟩
          rw [eK]
          refine ih _ (by omega) (k + 1) _ rfl (by omega) (by omega) (((f.st (by omega)).st (by omega)).st (by omega)) ?_ (fun r t0 t1 => ?_)
          · rw [rh_set_a (by omega), rh_set_a (by omega), rh_set_s, ec]
          · rw [show rnc c k + 1 - 1 = rnc c k by omega]
            simp only [rnf, rne]
            by_cases e : r = rnc c k
            · rw [e, rh_set_a (show (29 : Int) ≠ 30 by decide), rh_set_s, rh_set_s, rh_if_t ⟨hb, rfl⟩, rh_if_t ⟨q, ec⟩]
              exact ⟨rfl, (by omega)⟩
            · rw [rh_set_j e, rh_set_j e, rh_set_j e, rh_set_a (show (29 : Int) ≠ 25 by decide), rh_set_a (show (30 : Int) ≠ 29 by decide), rh_set_a (show (30 : Int) ≠ 25 by decide), rh_if_f (fun w => e w.2.symm), rh_if_f (fun w => e (by omega))]
              exact hr.out r t0 (by omega)
        · have hb : ¬ rnb c k := by
            rintro ⟨-, w | w⟩
            · exact y (.inl (by omega))
            · by_cases e : (k : Int) = a
              · exact y (.inl e)
              · exact y (.inr (by rw [c26' e]; exact w))
          rw [rh_if_f hb, Int.add_zero] at ec
          have w1 : rnw c k ≠ 0 := fun z => hb ((rnb_i hc k).mpr ⟨q, z⟩)
          rintro _ rfl
          rw [c26, h8]
          refine ⟨⟨by omega, by omega⟩, fun _ => ⟨⟨by omega, by omega⟩, ⟨by omega, by omega⟩, ⟨by omega, by omega⟩, ?_⟩, fun z => absurd q z⟩
          rw [eK]
          refine ih _ (by omega) (k + 1) _ rfl (by omega) (by omega) (f.st (by omega)) (by rw [rh_set_a (by omega), h8, ec]) (fun r t0 t1 => ?_)
          simp only [rnf, rne]
          rw [rh_if_f (fun w => hb w.1), rh_set_a (show (29 : Int) ≠ 30 by decide)]
          by_cases e : r = rnc c k - 1
          · rw [e, rh_set_s, rh_if_t ⟨q, (by omega)⟩]
            exact ⟨(hr.out _ (by omega) (by omega)).1, (by omega)⟩
          · rw [rh_set_j e, rh_if_f (fun w => e (by omega))]
            exact hr.out r t0 (by omega)
      · have hb : ¬ rnb c k := fun z => q z.1
        rw [rh_if_f hb, Int.add_zero] at ec
        rintro _ rfl
        rw [c26]
        refine ⟨⟨by omega, by omega⟩, fun z => absurd z q, fun _ => ⟨⟨by omega, by omega⟩, ?_⟩⟩
        rw [eK]
        refine ih _ (by omega) (k + 1) _ rfl (by omega) (by omega) f (by rw [h8, ec]) (fun r t0 t1 => ?_)
        simp only [rnf, rne]
        rw [rh_if_f (fun w => hb w.1), rh_if_f (fun w => q w.1)]
        exact hr.out r t0 (by omega)
  exact key _ a _ rfl (Nat.le_refl _) hab (frx.rf.st (by omega)) (by rw [rh_set_s, r0]) (fun r t0 t1 => by omega)
end CutsH
