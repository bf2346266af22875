/-! ===== LAYER 2: paint, with frames; the last of the pages' operations ===== -/
section Paint2
variable {wh wm : rhW}
theorem Ppaint.pres {Mh Mm M' M2' : rhM} {p r r2 : Int} (R : Rpg Mh Mm) (h : Ppaint Mh Mm p r M' r2 M2') : r = r2 ∧ Pres Mh Mm M' M2' := by
  obtain ⟨e, h⟩ := h
  refine ⟨e, ?_⟩
  rcases h with ⟨h1, h2⟩ | ⟨p0, p1, Mh1, Mm1, h1, h2, f, g, Ri, hz⟩
  · rw [h1, h2]
    exact .inl ⟨frx.rf, frx.rf.st (by unfold Gw; omega)⟩
  · refine .inr ⟨p, ⟨p0, p1⟩, ?_⟩
    have F : frx (fun a j => Hw a j ∨ Flay p a j) Mh M' := by
      rw [h1]
      exact (((f.x.w (fun a j h => by unfold Hw Flay; omega)).st (by unfold Hw Flay; omega)).st (by unfold Hw Flay; omega)).st (by unfold Hw Flay; omega)
    have G : frx (fun a j => Gw a j ∨ Glay p a j) Mm M2' := by
      rw [h2]
      have g1 : frx (fun a j => Gw a j ∨ Glay p a j) Mm Mm1 := by
        intro a j hn
        by_cases q : a = 3
        · rw [q]
          exact hz j (fun y => hn (by rw [q]; unfold Glay; omega))
        · rw [g.at q]
          by_cases q2 : a = 0
          · by_cases q3 : j = 0
            · exact absurd (.inl (.inl ⟨q2, .inl q3⟩)) hn
            · exact rh_set_j q3
          · exact rh_set_a q2
      exact (g1.st (by unfold Gw Glay; omega)).st (by unfold Gw Glay; omega)
    have w1 : ∀ a j : Int, ¬ (a = 251 + 39 * p ∧ (j = 4 ∨ j = 16)) → ¬ (a = 251 + 39 * p + 9 ∧ j = 0) → M' a j = Mh1 a j := fun a j n1 n2 => by
      rw [h1]
      have F2 : frx (fun a j => (a = 251 + 39 * p ∧ (j = 4 ∨ j = 16)) ∨ (a = 251 + 39 * p + 9 ∧ j = 0)) Mh1 (rh_set (rh_set (rh_set Mh1 (251 + 39 * p) 4 0) (251 + 39 * p + 9) 0 0) (251 + 39 * p) 16 0) := ((frx.rf.st (by omega)).st (by omega)).st (by omega)
      exact F2 a j (fun y => y.elim n1 n2)
    have w2 : ∀ a : Int, a ≠ 23 → a ≠ 157 → M2' a = Mm1 a := fun a n1 n2 => by
      rw [h2, rh_set_n n2, rh_set_n n1]
    have G4 : ∀ j, M2' 4 j = Mm 4 j := fun j => by rw [w2 4 (by decide) (by decide), g.at (by decide), set0_4]
    refine ⟨?_, ⟨?_, ?_, ?_, ?_, ?_⟩, F, G⟩
    · intro q q0 q1
      obtain ⟨R1, b⟩ := R q q0 q1
      by_cases e : q = p
      · subst e
        refine ⟨Ri.fx (w1 _ _ (by omega) (by omega)) (w1 _ _ (by omega) (by omega)) (funext (fun j => w1 _ _ (by omega) (by omega))) (w2 3 (by decide) (by decide)) (w2 4 (by decide) (by decide)) (w2 5 (by decide) (by decide)), ?_⟩
        rw [w1 _ _ (by omega) (by omega), f.at (by omega), G4]
        exact b
      · have v : ∀ j, M' (251 + 39 * q) j = Mh (251 + 39 * q) j := fun j => by rw [w1 _ _ (by omega) (by omega), f.at (by omega)]
        have v1 : M' (251 + 39 * q + 1) = Mh (251 + 39 * q + 1) := funext (fun j => by rw [w1 _ _ (by omega) (by omega), f.at (by omega)])
        have G5 : ∀ j, M2' 5 j = Mm 5 j := fun j => by rw [w2 5 (by decide) (by decide), g.at (by decide), rh_set_a (by decide)]
        obtain ⟨a1, a2, a3, a4, a5, a6, a7, a8, a9, a10⟩ := R1
        refine ⟨?_, by rw [v, G4]; exact b⟩
        unfold Rp
        rw [v, v, v1, G4, G5]
        refine ⟨a1, a2, a3, a4, a5, a6, a7, a8, a9, fun k k0 k1 => ?_⟩
        rw [w2 3 (by decide) (by decide), hz _ (by omega)]
        exact a10 k k0 k1
    · rw [h1]; simp [rh_sets]
    · rw [h1]; simp [rh_sets]
    · rw [h1]; simp [rh_sets]
    · rw [h2]; simp [rh_sets]
    · rw [h2]; simp [rh_sets]
end Paint2
