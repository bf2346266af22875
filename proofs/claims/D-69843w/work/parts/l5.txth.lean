/-! ===== LAYER 2: texts: the house writes a reading ===== -/
section TxtH
variable {wh wm : rhW}
def lnN (M : rhM) (r j : Int) : Prop := j = 0 ∨ M 119 (80 * r + j) ≠ M 119 (80 * r + (j - 1))
def bkN (M : rhM) (r j : Int) : Prop := j = 0 ∨ M 120 (80 * r + j) ≠ M 120 (80 * r + (j - 1))
def lnE (M : rhM) (r N j : Int) : Prop := j + 1 = N ∨ M 119 (80 * r + j) ≠ M 119 (80 * r + (j + 1))
def bkE (M : rhM) (r N j : Int) : Prop := j + 1 = N ∨ M 120 (80 * r + j) ≠ M 120 (80 * r + (j + 1))
noncomputable def hpr (M : rhM) (r mk j : Int) : List Int := rh_if (mk = 0) (rh_if (lnN M r j) [] [32]) (rh_if (bkN M r j) [60, 98, 62, 60, 108, 62] (rh_if (lnN M r j) [60, 108, 62] []))
noncomputable def hpo (M : rhM) (r N mk j : Int) : List Int := rh_if (mk = 0) (rh_if (bkE M r N j) [10, 10] (rh_if (lnE M r N j) [10] [])) (rh_if (bkE M r N j) [60, 47, 108, 62, 60, 47, 98, 62] (rh_if (lnE M r N j) [60, 47, 108, 62] []))
noncomputable def hwd (M : rhM) (k mk : Int) : List Int := rh_if (mk = 0) (wtx M k 0 (wsz M k).toNat) (mkw M k)
noncomputable def htx (M : rhM) (r N mk : Int) : Nat → List Int
  | 0 => []
  | j + 1 => htx M r N mk j ++ (hpr M r mk j ++ (hwd M (80 * r + j) mk ++ hpo M r N mk j))
theorem hpr_l {M : rhM} {r mk j : Int} : (hpr M r mk j).length ≤ 6 := by
  unfold hpr
  by_cases h : mk = 0
  · rw [rh_if_t h]
    by_cases g : lnN M r j
    · rw [rh_if_t g]; decide
    · rw [rh_if_f g]; decide
  · rw [rh_if_f h]
    by_cases g : bkN M r j
    · rw [rh_if_t g]; decide
    · rw [rh_if_f g]
      by_cases k : lnN M r j
      · rw [rh_if_t k]; decide
      · rw [rh_if_f k]; decide
theorem hpo_l {M : rhM} {r N mk j : Int} : (hpo M r N mk j).length ≤ 8 := by
  unfold hpo
  by_cases h : mk = 0
  · rw [rh_if_t h]
    by_cases g : bkE M r N j
    · rw [rh_if_t g]; decide
    · rw [rh_if_f g]
      by_cases k : lnE M r N j
      · rw [rh_if_t k]; decide
      · rw [rh_if_f k]; decide
  · rw [rh_if_f h]
    by_cases g : bkE M r N j
    · rw [rh_if_t g]; decide
    · rw [rh_if_f g]
      by_cases k : lnE M r N j
      · rw [rh_if_t k]; decide
      · rw [rh_if_f k]; decide
theorem hwd_l {M : rhM} {k mk : Int} (h : wsz M k ≤ 12) : (hwd M k mk).length ≤ 90 := by
  unfold hwd
  by_cases g : mk = 0
  · rw [rh_if_t g]
    have := wtx_l (M := M) (k := k) (mk := 0) (wsz M k).toNat
    omega
  · rw [rh_if_f g]
    exact mkw_l h
theorem htx_l {M : rhM} {r N mk : Int} (h : ∀ j : Int, 0 ≤ j → j < N → wsz M (80 * r + j) ≤ 12) : ∀ j : Nat, (j : Int) ≤ N → (htx M r N mk j).length ≤ 104 * j
  | 0 => fun _ => Nat.le_refl _
  | j + 1 => fun hj => by
    have h1 := htx_l (mk := mk) h j (by omega)
    have h2 := hpr_l (M := M) (r := r) (mk := mk) (j := (j : Int))
    have h3 := hpo_l (M := M) (r := r) (N := N) (mk := mk) (j := (j : Int))
    have h4 := hwd_l (M := M) (k := 80 * r + j) (mk := mk) (h j (by omega) (by omega))
    simp only [htx]
    rw [List.length_append, List.length_append, List.length_append]
    omega
theorem sk0 : Sok [60, 98, 62, 60, 108, 62] := ⟨by decide +kernel, by decide, by decide⟩
theorem sk1 : Sok [60, 108, 62] := ⟨by decide +kernel, by decide, by decide⟩
theorem sk2 : Sok [] := ⟨by decide +kernel, by decide, by decide⟩
theorem sk8 : Sok [60, 47, 108, 62, 60, 47, 98, 62] := ⟨by decide +kernel, by decide, by decide⟩
theorem sk9 : Sok [60, 47, 108, 62] := ⟨by decide +kernel, by decide, by decide⟩
theorem sk10 : Sok [32] := ⟨by decide +kernel, by decide, by decide⟩
theorem sk11 : Sok [10, 10] := ⟨by decide +kernel, by decide, by decide⟩
theorem sk12 : Sok [10] := ⟨by decide +kernel, by decide, by decide⟩
/-- the first steps at a word -/
theorem h_w9 (hh : rh_hs wh) {Mm A1 : rhM} {r N mk j : Int} (hr : 0 ≤ r ∧ r < 4) (hN : N ≤ 80) (hj : 0 ≤ j ∧ j < N) (e1 : A1 (563 + 18 * r) 1 = N) (e7 : ∀ i, 0 ≤ i → i < N → A1 (563 + 18 * r + 7) i = Mm 119 (80 * r + i)) (e8 : ∀ i, 0 ≤ i → i < N → A1 (563 + 18 * r + 8) i = Mm 120 (80 * r + i)) (P : Int → rhM → Prop)
    (H : ∀ s2 s3 : Int, s2 = rh_if (lnE Mm r N j) (1 : Int) 0 → s3 = rh_if (bkE Mm r N j) (1 : Int) 0 → (mk ≠ 0 → (bkN Mm r j → rh1 wh YX1_write 7 154 [(0, 2, 0), (1, 2, 563 + 18 * r), (2, 0, mk), (3, 0, j), (6, 0, s2), (7, 0, s3)] [(2, 4)] A1 P) ∧ (¬ bkN Mm r j → lnN Mm r j → rh1 wh YX1_write 7 165 [(0, 2, 0), (1, 2, 563 + 18 * r), (2, 0, mk), (3, 0, j), (6, 0, s2), (7, 0, s3)] [(2, 4)] A1 P) ∧ (¬ bkN Mm r j → ¬ lnN Mm r j → rh1 wh YX1_write 7 171 [(0, 2, 0), (1, 2, 563 + 18 * r), (2, 0, mk), (3, 0, j), (6, 0, s2), (7, 0, s3)] [(2, 4)] A1 P)) ∧ (mk = 0 → (lnN Mm r j → rh1 wh YX1_write 7 227 [(0, 2, 0), (1, 2, 563 + 18 * r), (2, 0, mk), (3, 0, j), (6, 0, s2), (7, 0, s3)] [(2, 4)] A1 P) ∧ (¬ lnN Mm r j → rh1 wh YX1_write 7 233 [(0, 2, 0), (1, 2, 563 + 18 * r), (2, 0, mk), (3, 0, j), (6, 0, s2), (7, 0, s3)] [(2, 4)] A1 P))) : rh1 wh YX1_write 7 9 [(0, 2, 0), (1, 2, 563 + 18 * r), (2, 0, mk), (3, 0, j)] [] A1 P := by
  have hx := hs_rd hh hr.1 hr.2
  have v0 : rh_if ((j = 0) ∨ ((A1 (563 + 18 * r + 7) j) ≠ (A1 (563 + 18 * r + 7) (j - 1)))) (1 : Int) 0 = rh_if (lnN Mm r j) (1 : Int) 0 := by
    by_cases z : j = 0
    · rw [rh_if_t (.inl z), rh_if_t (show lnN Mm r j from .inl z)]
    · rw [e7 j hj.1 hj.2, e7 (j - 1) (by omega) (by omega)]
      rfl
  have v1 : rh_if ((j = 0) ∨ ((A1 (563 + 18 * r + 8) j) ≠ (A1 (563 + 18 * r + 8) (j - 1)))) (1 : Int) 0 = rh_if (bkN Mm r j) (1 : Int) 0 := by
    by_cases z : j = 0
    · rw [rh_if_t (.inl z), rh_if_t (show bkN Mm r j from .inl z)]
    · rw [e8 j hj.1 hj.2, e8 (j - 1) (by omega) (by omega)]
      rfl
  have v2 : rh_if (((j + 1) = N) ∨ ((A1 (563 + 18 * r + 7) j) ≠ (A1 (563 + 18 * r + 7) (j + 1)))) (1 : Int) 0 = rh_if (lnE Mm r N j) (1 : Int) 0 := by
    by_cases z : j + 1 = N
    · rw [rh_if_t (.inl z), rh_if_t (show lnE Mm r N j from .inl z)]
    · rw [e7 j hj.1 hj.2, e7 (j + 1) (by omega) (by omega)]
      rfl
  have v3 : rh_if (((j + 1) = N) ∨ ((A1 (563 + 18 * r + 8) j) ≠ (A1 (563 + 18 * r + 8) (j + 1)))) (1 : Int) 0 = rh_if (bkE Mm r N j) (1 : Int) 0 := by
    by_cases z : j + 1 = N
    · rw [rh_if_t (.inl z), rh_if_t (show bkE Mm r N j from .inl z)]
    · rw [e8 j hj.1 hj.2, e8 (j + 1) (by omega) (by omega)]
      rfl
  refine rh1.of (rX1_write_9 hh _ _ _ _ hx ?_)
  rw [e1, v0, v1, v2, v3]
  refine ⟨fun _ => ⟨fun _ => ⟨by omega, by omega⟩, fun _ => ⟨by omega, by omega⟩, fun s0 h0 => ⟨fun _ => ⟨by omega, by omega⟩, fun _ => ⟨by omega, by omega⟩, fun s1 h1 => ⟨⟨by omega, by omega⟩, fun _ => ⟨by omega, by omega⟩, fun _ => ⟨by omega, by omega⟩, fun s2 h2 => ⟨⟨by omega, by omega⟩, fun _ => ⟨by omega, by omega⟩, fun _ => ⟨by omega, by omega⟩, fun s3 h3 => ?_⟩⟩⟩⟩, fun z => absurd hj.2 z⟩
  obtain ⟨Ha, Hb⟩ := H s2 s3 h2 h3
  refine ⟨fun m => ⟨fun z => ?_, fun z => ⟨fun y => ?_, fun y => ?_⟩⟩, fun m => ⟨fun z => ?_, fun z => ?_⟩⟩
  · by_cases q : bkN Mm r j
    · exact (Ha m).1 q
    · rw [rh_if_f q] at h1; exact absurd h1 z
  · by_cases q : bkN Mm r j
    · rw [rh_if_t q] at h1; rw [h1] at z; exact absurd (by decide) z
    · by_cases q2 : lnN Mm r j
      · exact (Ha m).2.1 q q2
      · rw [rh_if_f q2] at h0; exact absurd h0 y
  · by_cases q : bkN Mm r j
    · rw [rh_if_t q] at h1; rw [h1] at z; exact absurd (by decide) z
    · by_cases q2 : lnN Mm r j
      · rw [rh_if_t q2] at h0; rw [h0] at y; exact absurd (by decide) y
      · exact (Ha m).2.2 q q2
  · by_cases q2 : lnN Mm r j
    · exact (Hb (Classical.not_not.mp m)).1 q2
    · rw [rh_if_f q2] at h0; exact absurd h0 z
  · by_cases q2 : lnN Mm r j
    · rw [rh_if_t q2] at h0; rw [h0] at z; exact absurd (by decide) z
    · exact (Hb (Classical.not_not.mp m)).2 q2
theorem h_write (hh : rh_hs wh) {Mh Mm A : rhM} (R : RdA Mh Mm) (Q : RdB Mh Mm) (C : RdC Mh Mm) {r mk : Int} {N : Nat} (hr : 0 ≤ r ∧ r < 4) (hw : Mm 113 r ≠ 0) (hN : Mm 114 r = N) (W : Wds Mm r N) (NS : ∀ j : Int, 0 ≤ j → j < N → Nsm Mm (80 * r + j)) (f : ∀ c i, 563 ≤ c → A c i = Mh c i) : ∃ A', eC wh YX1_write 7 [(2, 0), (2, 563 + 18 * r), (0, mk)] A 0 A' ∧ Hox A' (htx Mm r N mk N) ∧ frx Fdr A A' := by
  have hx := hs_rd hh hr.1 hr.2
  obtain ⟨b1, b2, b3⟩ := (R r hr.1 hr.2).2 hw
  rw [hN] at b1 b2
  have key : ∀ (u j : Nat) (A1 : rhM), j + u = N → Hox A1 (htx Mm r N mk j) → frx Fdr A A1 → ∃ A', (∀ P : Int → rhM → Prop, P 0 A' → rh1 wh YX1_write 7 9 [(0, 2, 0), (1, 2, 563 + 18 * r), (2, 0, mk), (3, 0, (j : Int))] [] A1 P) ∧ Hox A' (htx Mm r N mk N) ∧ frx Fdr A A' := by
    intro u
    induction u with
    | zero =>
      intro j A1 hj o1 f1
      have e : j = N := by omega
      subst e
      have e1 : A1 (563 + 18 * r) 1 = (j : Int) := by rw [f1 _ _ (by unfold Fdr; omega), f _ _ (by omega)]; exact b1
      refine ⟨A1, fun P K => ?_, o1, f1⟩
      refine rh1.of (rX1_write_9 hh _ _ _ _ hx ?_)
      rw [e1]
      exact ⟨fun z => by omega, fun _ => K⟩
    | succ u ih =>
      intro j A1 hj o1 f1
      have jN : (0 : Int) ≤ j ∧ (j : Int) < N := ⟨by omega, by omega⟩
      have ff : ∀ (X : rhM), frx Fdr A X → ∀ c i, 563 ≤ c → X c i = Mh c i := fun X g c i hc => by rw [g _ _ (by unfold Fdr; omega)]; exact f c i hc
      have e1 : A1 (563 + 18 * r) 1 = (N : Int) := (ff _ f1 _ _ (by omega)).trans b1
      have e7 : ∀ i, 0 ≤ i → i < (N : Int) → A1 (563 + 18 * r + 7) i = Mm 119 (80 * r + i) := fun i i0 i1 => (ff _ f1 _ _ (by omega)).trans (Q r hr.1 hr.2 hw i i0 (by omega)).2.1
      have e8 : ∀ i, 0 ≤ i → i < (N : Int) → A1 (563 + 18 * r + 8) i = Mm 120 (80 * r + i) := fun i i0 i1 => (ff _ f1 _ _ (by omega)).trans (Q r hr.1 hr.2 hw i i0 (by omega)).2.2.1
      have w9 := h_w9 hh (Mm := Mm) (A1 := A1) (mk := mk) hr (by omega) jN e1 e7 e8
      have Wj := W j jN.1 jN.2
      have hl := htx_l (M := Mm) (r := r) (N := N) (mk := mk) (fun i i0 i1 => (W i i0 i1).1.2) j (by omega)
      have l1 := hpr_l (M := Mm) (r := r) (mk := mk) (j := (j : Int))
      have l2 := hwd_l (M := Mm) (k := 80 * r + j) (mk := mk) Wj.1.2
      have l3 := hpo_l (M := Mm) (r := r) (N := N) (mk := mk) (j := (j : Int))
      obtain ⟨s2, h2⟩ : ∃ s2, s2 = rh_if (lnE Mm r N j) (1 : Int) 0 := ⟨_, rfl⟩
      obtain ⟨s3, h3⟩ : ∃ s3, s3 = rh_if (bkE Mm r N j) (1 : Int) 0 := ⟨_, rfl⟩
      -- a text comes
      have AT : ∀ (i : Nat) (q : String × Nat × String × List Int) (X : rhM) (l : List Int), rh_st[i]? = some q → Sok q.2.2.2 → Hox X l → l.length ≤ 20000 → frx Fdr A X → ∃ X', eC wh YX4_add_2 4 [(2, 4), (9, (i : Int))] X 0 X' ∧ Hox X' (l ++ q.2.2.2) ∧ frx Fdr A X' := fun i q X l hq sk ho hl fX => by
        obtain ⟨X', E, g1, g2⟩ := c_addS hh hq sk ho hl
        exact ⟨X', E, g1, fX.tr g2⟩
      by_cases m0 : mk = 0
      · -- plain
        have pre : ∃ A2, (∀ P : Int → rhM → Prop, rh1 wh YX1_write 7 239 [(0, 2, 0), (1, 2, 563 + 18 * r), (2, 0, mk), (3, 0, (j : Int)), (6, 0, s2), (7, 0, s3)] [] A2 P → rh1 wh YX1_write 7 9 [(0, 2, 0), (1, 2, 563 + 18 * r), (2, 0, mk), (3, 0, (j : Int))] [] A1 P) ∧ Hox A2 (htx Mm r N mk j ++ hpr Mm r mk j) ∧ frx Fdr A A2 := by
          by_cases q : lnN Mm r j
          · obtain ⟨A2, E, o, g⟩ := AT 2 ("ReadingHouse", 847, "", []) A1 _ rfl sk2 o1 (by omega) f1
            refine ⟨A2, fun P K => w9 P (fun t2 t3 g2 g3 => ⟨fun z => absurd m0 z, fun _ => ⟨fun _ => ?_, fun z => absurd q z⟩⟩), by unfold hpr; rw [rh_if_t m0, rh_if_t q]; exact o, g⟩
            rw [← h2] at g2
            rw [← h3] at g3
            rw [g2, g3]
            refine rh1.s wX1_write_227 ?_
            refine rh1.of (rX1_write_230 hh _ _ _ _ _ _ _ hx ?_)
            exact rh1.s (wX1_write_236 hh (by decide : 4 < 7) E (LE0 rfl)) K
          · obtain ⟨A2, E, o, g⟩ := AT 10 ("ReadingHouse", 857, " ", [32]) A1 _ rfl sk10 o1 (by omega) f1
            refine ⟨A2, fun P K => w9 P (fun t2 t3 g2 g3 => ⟨fun z => absurd m0 z, fun _ => ⟨fun z => absurd z q, fun _ => ?_⟩⟩), by unfold hpr; rw [rh_if_t m0, rh_if_f q]; exact o, g⟩
            rw [← h2] at g2
            rw [← h3] at g3
            rw [g2, g3]
            refine rh1.s wX1_write_233 ?_
            exact rh1.s (wX1_write_236 hh (by decide : 4 < 7) E (LE0 rfl)) K
        obtain ⟨A2, K2, o2, f2⟩ := pre
        obtain ⟨A3, E3, o3, f3⟩ := h_addW hh R Q C (mk := 0) hr hw (j := (j : Int)) (by rw [hN]; exact jN) Wj.1 (ff _ f2) o2 (by rw [List.length_append]; omega)
        have eh : hwd Mm (80 * r + j) mk = wtx Mm (80 * r + j) 0 (wsz Mm (80 * r + j)).toNat := by unfold hwd; rw [rh_if_t m0]
        rw [← eh] at o3
        have f3' : frx Fdr A A3 := f2.tr f3
        have post : ∃ A4, (∀ P : Int → rhM → Prop, rh1 wh YX1_write 7 9 [(0, 2, 0), (1, 2, 563 + 18 * r), (2, 0, mk), (3, 0, (j : Int) + 1)] [] A4 P → rh1 wh YX1_write 7 246 [(0, 2, 0), (1, 2, 563 + 18 * r), (2, 0, mk), (3, 0, (j : Int)), (6, 0, s2), (7, 0, s3)] [] A3 P) ∧ Hox A4 (htx Mm r N mk j ++ hpr Mm r mk j ++ hwd Mm (80 * r + j) mk ++ hpo Mm r N mk j) ∧ frx Fdr A A4 := by
          have lb : (htx Mm r N mk j ++ hpr Mm r mk j ++ hwd Mm (80 * r + j) mk).length ≤ 20000 := by rw [List.length_append, List.length_append]; omega
          by_cases q : bkE Mm r N j
          · obtain ⟨A4, E, o, g⟩ := AT 11 ("ReadingHouse", 859, "\n\n", [10, 10]) A3 _ rfl sk11 o3 lb f3'
            refine ⟨A4, fun P K => ?_, by unfold hpo; rw [rh_if_t m0, rh_if_t q]; exact o, g⟩
            rw [rh_if_t q] at h3
            refine rh1.of (rX1_write_246 hh _ _ _ _ _ _ hx ?_)
            refine ⟨fun _ => rh1.s wX1_write_255 ?_, fun z => absurd (by rw [h3]; decide) z⟩
            refine rh1.of (rX1_write_258 hh _ _ _ _ _ hx ?_)
            refine rh1.s (wX1_write_275 hh (by decide : 4 < 7) E (LE0 rfl)) ?_
            refine rh1.of (rX1_write_278 hh _ _ _ _ hx ?_)
            exact ⟨⟨by omega, by omega⟩, K⟩
          · rw [rh_if_f q] at h3
            by_cases q2 : lnE Mm r N j
            · obtain ⟨A4, E, o, g⟩ := AT 12 ("ReadingHouse", 861, "\n", [10]) A3 _ rfl sk12 o3 lb f3'
              refine ⟨A4, fun P K => ?_, by unfold hpo; rw [rh_if_t m0, rh_if_f q, rh_if_t q2]; exact o, g⟩
              rw [rh_if_t q2] at h2
              refine rh1.of (rX1_write_246 hh _ _ _ _ _ _ hx ?_)
              refine ⟨fun z => absurd h3 z, fun _ => ⟨fun _ => rh1.s wX1_write_266 ?_, fun z => absurd (by rw [h2]; decide) z⟩⟩
              refine rh1.of (rX1_write_269 hh _ _ _ _ _ hx ?_)
              refine rh1.s (wX1_write_275 hh (by decide : 4 < 7) E (LE0 rfl)) ?_
              refine rh1.of (rX1_write_278 hh _ _ _ _ hx ?_)
              exact ⟨⟨by omega, by omega⟩, K⟩
            · obtain ⟨A4, E, o, g⟩ := AT 2 ("ReadingHouse", 847, "", []) A3 _ rfl sk2 o3 lb f3'
              refine ⟨A4, fun P K => ?_, by unfold hpo; rw [rh_if_t m0, rh_if_f q, rh_if_f q2]; exact o, g⟩
              rw [rh_if_f q2] at h2
              refine rh1.of (rX1_write_246 hh _ _ _ _ _ _ hx ?_)
              refine ⟨fun z => absurd h3 z, fun _ => ⟨fun z => absurd h2 z, fun _ => rh1.s wX1_write_272 ?_⟩⟩
              refine rh1.s (wX1_write_275 hh (by decide : 4 < 7) E (LE0 rfl)) ?_
              refine rh1.of (rX1_write_278 hh _ _ _ _ hx ?_)
              exact ⟨⟨by omega, by omega⟩, K⟩
        obtain ⟨A4, K4, o4, f4⟩ := post
        simp only [List.append_assoc] at o4
        obtain ⟨A', E', g1, g2⟩ := ih (j + 1) A4 (by omega) o4 f4
        refine ⟨A', fun P K => K2 P ?_, g1, g2⟩
        refine rh1.of (rX1_write_239 hh _ _ _ _ _ _ hx ?_)
        refine rh1.s (wX1_write_243 hh (by decide : 5 < 7) E3 (LE0 rfl)) (K4 P (E' P K))
      · -- with marks
        have pre : ∃ A2, (∀ P : Int → rhM → Prop, rh1 wh YX1_write 7 177 [(0, 2, 0), (1, 2, 563 + 18 * r), (2, 0, mk), (3, 0, (j : Int)), (6, 0, s2), (7, 0, s3)] [] A2 P → rh1 wh YX1_write 7 9 [(0, 2, 0), (1, 2, 563 + 18 * r), (2, 0, mk), (3, 0, (j : Int))] [] A1 P) ∧ Hox A2 (htx Mm r N mk j ++ hpr Mm r mk j) ∧ frx Fdr A A2 := by
          by_cases q : bkN Mm r j
          · obtain ⟨A2, E, o, g⟩ := AT 0 ("ReadingHouse", 843, "<b><l>", [60, 98, 62, 60, 108, 62]) A1 _ rfl sk0 o1 (by omega) f1
            refine ⟨A2, fun P K => w9 P (fun t2 t3 g2 g3 => ⟨fun _ => ⟨fun _ => ?_, fun z => absurd q z, fun z => absurd q z⟩, fun z => absurd z m0⟩), by unfold hpr; rw [rh_if_f m0, rh_if_t q]; exact o, g⟩
            rw [← h2] at g2
            rw [← h3] at g3
            rw [g2, g3]
            refine rh1.s wX1_write_154 ?_
            refine rh1.of (rX1_write_157 hh _ _ _ _ _ _ _ hx ?_)
            exact rh1.s (wX1_write_174 hh (by decide : 4 < 7) E (LE0 rfl)) K
          · by_cases q2 : lnN Mm r j
            · obtain ⟨A2, E, o, g⟩ := AT 1 ("ReadingHouse", 845, "<l>", [60, 108, 62]) A1 _ rfl sk1 o1 (by omega) f1
              refine ⟨A2, fun P K => w9 P (fun t2 t3 g2 g3 => ⟨fun _ => ⟨fun z => absurd z q, fun _ _ => ?_, fun _ z => absurd q2 z⟩, fun z => absurd z m0⟩), by unfold hpr; rw [rh_if_f m0, rh_if_f q, rh_if_t q2]; exact o, g⟩
              rw [← h2] at g2
              rw [← h3] at g3
              rw [g2, g3]
              refine rh1.s wX1_write_165 ?_
              refine rh1.of (rX1_write_168 hh _ _ _ _ _ _ _ hx ?_)
              exact rh1.s (wX1_write_174 hh (by decide : 4 < 7) E (LE0 rfl)) K
            · obtain ⟨A2, E, o, g⟩ := AT 2 ("ReadingHouse", 847, "", []) A1 _ rfl sk2 o1 (by omega) f1
              refine ⟨A2, fun P K => w9 P (fun t2 t3 g2 g3 => ⟨fun _ => ⟨fun z => absurd z q, fun _ z => absurd z q2, fun _ _ => ?_⟩, fun z => absurd z m0⟩), by unfold hpr; rw [rh_if_f m0, rh_if_f q, rh_if_f q2]; exact o, g⟩
              rw [← h2] at g2
              rw [← h3] at g3
              rw [g2, g3]
              refine rh1.s wX1_write_171 ?_
              exact rh1.s (wX1_write_174 hh (by decide : 4 < 7) E (LE0 rfl)) K
        obtain ⟨A2, K2, o2, f2⟩ := pre
        obtain ⟨A3, E3, o3, f3⟩ := h_addM hh R Q C hr hw (j := (j : Int)) (by rw [hN]; exact jN) Wj.1 (NS j jN.1 jN.2) (ff _ f2) o2 (by rw [List.length_append]; omega)
        have eh : hwd Mm (80 * r + j) mk = mkw Mm (80 * r + j) := by unfold hwd; rw [rh_if_f m0]
        rw [← eh] at o3
        have f3' : frx Fdr A A3 := f2.tr f3
        have post : ∃ A4, (∀ P : Int → rhM → Prop, rh1 wh YX1_write 7 9 [(0, 2, 0), (1, 2, 563 + 18 * r), (2, 0, mk), (3, 0, (j : Int) + 1)] [] A4 P → rh1 wh YX1_write 7 183 [(0, 2, 0), (1, 2, 563 + 18 * r), (2, 0, mk), (3, 0, (j : Int)), (6, 0, s2), (7, 0, s3)] [] A3 P) ∧ Hox A4 (htx Mm r N mk j ++ hpr Mm r mk j ++ hwd Mm (80 * r + j) mk ++ hpo Mm r N mk j) ∧ frx Fdr A A4 := by
          have lb : (htx Mm r N mk j ++ hpr Mm r mk j ++ hwd Mm (80 * r + j) mk).length ≤ 20000 := by rw [List.length_append, List.length_append]; omega
          by_cases q : bkE Mm r N j
          · obtain ⟨A4, E, o, g⟩ := AT 8 ("ReadingHouse", 853, "</l></b>", [60, 47, 108, 62, 60, 47, 98, 62]) A3 _ rfl sk8 o3 lb f3'
            refine ⟨A4, fun P K => ?_, by unfold hpo; rw [rh_if_f m0, rh_if_t q]; exact o, g⟩
            rw [rh_if_t q] at h3
            refine rh1.of (rX1_write_183 hh _ _ _ _ _ _ hx ?_)
            refine ⟨fun _ => rh1.s wX1_write_192 ?_, fun z => absurd (by rw [h3]; decide) z⟩
            refine rh1.of (rX1_write_195 hh _ _ _ _ _ hx ?_)
            refine rh1.s (wX1_write_212 hh (by decide : 4 < 7) E (LE0 rfl)) ?_
            refine rh1.of (rX1_write_215 hh _ _ _ _ hx ?_)
            exact ⟨⟨by omega, by omega⟩, K⟩
          · rw [rh_if_f q] at h3
            by_cases q2 : lnE Mm r N j
            · obtain ⟨A4, E, o, g⟩ := AT 9 ("ReadingHouse", 855, "</l>", [60, 47, 108, 62]) A3 _ rfl sk9 o3 lb f3'
              refine ⟨A4, fun P K => ?_, by unfold hpo; rw [rh_if_f m0, rh_if_f q, rh_if_t q2]; exact o, g⟩
              rw [rh_if_t q2] at h2
              refine rh1.of (rX1_write_183 hh _ _ _ _ _ _ hx ?_)
              refine ⟨fun z => absurd h3 z, fun _ => ⟨fun _ => rh1.s wX1_write_203 ?_, fun z => absurd (by rw [h2]; decide) z⟩⟩
              refine rh1.of (rX1_write_206 hh _ _ _ _ _ hx ?_)
              refine rh1.s (wX1_write_212 hh (by decide : 4 < 7) E (LE0 rfl)) ?_
              refine rh1.of (rX1_write_215 hh _ _ _ _ hx ?_)
              exact ⟨⟨by omega, by omega⟩, K⟩
            · obtain ⟨A4, E, o, g⟩ := AT 2 ("ReadingHouse", 847, "", []) A3 _ rfl sk2 o3 lb f3'
              refine ⟨A4, fun P K => ?_, by unfold hpo; rw [rh_if_f m0, rh_if_f q, rh_if_f q2]; exact o, g⟩
              rw [rh_if_f q2] at h2
              refine rh1.of (rX1_write_183 hh _ _ _ _ _ _ hx ?_)
              refine ⟨fun z => absurd h3 z, fun _ => ⟨fun z => absurd h2 z, fun _ => rh1.s wX1_write_209 ?_⟩⟩
              refine rh1.s (wX1_write_212 hh (by decide : 4 < 7) E (LE0 rfl)) ?_
              refine rh1.of (rX1_write_215 hh _ _ _ _ hx ?_)
              exact ⟨⟨by omega, by omega⟩, K⟩
        obtain ⟨A4, K4, o4, f4⟩ := post
        simp only [List.append_assoc] at o4
        obtain ⟨A', E', g1, g2⟩ := ih (j + 1) A4 (by omega) o4 f4
        refine ⟨A', fun P K => K2 P ?_, g1, g2⟩
        refine rh1.of (rX1_write_177 hh _ _ _ _ _ _ hx ?_)
        refine rh1.s (wX1_write_180 hh (by decide : 6 < 7) E3 (LE0 rfl)) (K4 P (E' P K))
  obtain ⟨A', E, g1, g2⟩ := key N 0 (rh_set A 4 3 0) (by omega) ⟨rh_set_s _ _ _ _, fun k k0 => by simp only [htx] at k0; exact absurd k0 (Nat.not_lt_zero _)⟩ (frx.rf.st (by unfold Fdr; omega))
  refine ⟨A', eC.of1 (rC1.of (by decide) (LE0 rfl) ?_), g1, g2⟩
  refine rh1.of (rX1_write_0 hh _ _ _ hx ?_)
  exact E _ ⟨rfl, rfl⟩
end TxtH
