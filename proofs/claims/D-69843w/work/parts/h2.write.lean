/-! ===== LAYER 2: writeSigns ===== -/
section WriteSigns
variable {wh wm : rhW}
theorem c_write (hh : rh_hs wh) {A0 : rhM} {n : Int} (hz : A0 213 3 = n) (hn : 0 ≤ n ∧ n ≤ 15) : ∃ A', eC wh YX1_writeSigns 2 [(2, 0)] A0 0 (m_end A' n) ∧ frx Fou A0 A' ∧ Wou A' (fun t => A0 216 t) n := by
  have key : ∀ (m : Nat) (k : Int) (A : rhM), k + m = n → 0 ≤ k → frx Fou A0 A → Wou A (fun t => A0 216 t) k → ∃ A', (∀ P : Int → rhM → Prop, P 0 (m_end A' n) → rh1 wh YX1_writeSigns 2 9 [(0, 2, 0), (1, 0, k)] [] A P) ∧ frx Fou A0 A' ∧ Wou A' (fun t => A0 216 t) n := by
    intro m
    induction m with
    | zero =>
      intro k A hk k0 f wo
      have e : k = n := (by omega)
      rw [e] at wo ⊢
      refine ⟨A, fun P HP => ?_, f, wo⟩
      refine rh1.of (rX1_writeSigns_9 hh _ _ ?_)
      rw [f 213 3 (by unfold Fou; omega), hz]
      refine ⟨fun z => by omega, fun _ => ?_⟩
      refine rh1.s (vX1_writeSigns_46 hh ((c_end hh A wo.1 (by omega)).2 (by omega)) (LE0 rfl)) ?_
      refine rh1.of (rX1_writeSigns_49 hh _ _ ?_)
      exact HP
    | succ m ih =>
      intro k A hk k0 f wo
      obtain ⟨A', E, r⟩ := ih (k + 1) (rh_set (rh_set A 6 k (rh_i2b (A0 216 k))) 4 3 (k + 1)) (by omega) (by omega) ((f.st (by unfold Fou; omega)).st (by unfold Fou; omega)) ⟨rh_set_s _ _ _ _, fun t t0 t1 => by
        rw [rh_set_a (by decide)]
        by_cases e : t = k
        · rw [e, rh_set_s]
        · rw [rh_set_j e]; exact wo.2 t t0 (by omega)⟩
      refine ⟨A', fun P HP => ?_, r⟩
      refine rh1.of (rX1_writeSigns_9 hh _ _ ?_)
      rw [wo.1, rh_if_t (show k < 6000 by omega), rh_set_a (by decide), wo.1, f 213 3 (by unfold Fou; omega), hz, f 216 k (by unfold Fou; omega)]
      exact ⟨fun _ => ⟨⟨by omega, by omega⟩, fun _ => ⟨by omega, by omega⟩, ⟨by omega, by omega⟩, ⟨by omega, by omega⟩, E P HP⟩, fun z => by omega⟩
  obtain ⟨A', E, f, W⟩ := key n.toNat 0 (rh_set A0 4 3 0) (by omega) (by decide) (frx.rf.st (by unfold Fou; omega)) ⟨rh_set_s _ _ _ _, fun t t0 t1 => by omega⟩
  refine ⟨A', eC.of1 (rC1.of (by decide) (LE0 rfl) ?_), f, W⟩
  refine rh1.of (rX1_writeSigns_0 hh _ ?_)
  exact E _ ⟨rfl, rfl⟩
end WriteSigns
