/-! ===== LAYER 2: learnText: the page's words once more ===== -/
section Pgd
variable {wh wm : rhW}
/-- what a page laid out is -/
def Pgd (Mh Mm : rhM) (p : Int) : Prop := Rp Mh Mm (251 + 39 * p) p ∧ 0 < Mm 4 p ∧ Srch Mh (251 + 39 * p) ∧ LyL Mh Mm (251 + 39 * p) p ∧ LyW Mh Mm (251 + 39 * p) p
theorem Pgd.fx {Mh Mm A B : rhM} {p : Int} (P : Pgd Mh Mm p) (hp : 0 ≤ p) (hA : ∀ c : Int, 251 ≤ c → A c = Mh c) (hB : ∀ c : Int, (3 ≤ c ∧ c ≤ 5) ∨ (23 ≤ c ∧ c ≤ 46) → B c = Mm c) : Pgd A B p := by
  obtain ⟨p1, p2, p3, p4, p5⟩ := P
  refine ⟨p1.fx (by rw [hA _ (by omega)]) (by rw [hA _ (by omega)]) (hA _ (by omega)) (hB 3 (by omega)) (hB 4 (by omega)) (hB 5 (by omega)), by rw [hB 4 (by omega)]; exact p2, p3.fx (by rw [hA _ (by omega)]) (by rw [hA _ (by omega)]) (by rw [hA _ (by omega)]) (fun a a0 a1 => hA a (by omega)), ?_, ?_⟩
  · refine LyL.m0 (Mm := Mm) ?_ (fun c c0 c1 => hB c (by omega))
    unfold LyL LnR at p4 ⊢
    simp (disch := omega) only [hA]
    exact p4
  · refine LyW.m0 (Mm := Mm) ?_ (hB 4 (by omega)) (hB 5 (by omega)) (fun c c0 c1 => hB c (by omega))
    unfold LyW WdR WdB at p5 ⊢
    simp (disch := omega) only [hA]
    exact p5
theorem ccn_cg {ink ink' : Int → Int} {W u : Int} : ∀ v : Nat, (∀ j : Int, 0 ≤ j → j < v → (ink (W * j + u) ≠ 0 ↔ ink' (W * j + u) ≠ 0)) → ccn ink W u v = ccn ink' W u v
  | 0 => fun _ => rfl
  | v + 1 => fun h => by
    simp only [ccn]
    rw [ccn_cg v (fun j j0 j1 => h j j0 (by omega))]
    have e := h v (by omega) (by omega)
    by_cases q : ink (W * v + u) ≠ 0
    · rw [if_pos q, if_pos (e.mp q)]
    · rw [if_neg q, if_neg (fun z => q (e.mpr z))]
theorem cof_cg {ink ink' : Int → Int} {W H : Int} (h : ∀ k, 0 ≤ k → k < W * H → (ink k ≠ 0 ↔ ink' k ≠ 0)) : cof ink W H = cof ink' W H := by
  funext u
  unfold cof
  by_cases q : 0 ≤ u ∧ u < W
  · rw [rh_if_t q, rh_if_t q]
    refine ccn_cg _ (fun j j0 j1 => h _ ?_ ?_)
    · have := Int.mul_nonneg (show 0 ≤ W by omega) j0
      omega
    · exact mul_lt q.1 q.2 j0 (by omega)
  · rw [rh_if_f q, rh_if_f q]
/-- how many runs a word has -/
noncomputable def rcn (M : rhM) (x w W H : Int) : Int := rnc (cof (fun k => rh_if (M (x + 2) k ≠ -1 ∧ M (x + 32) (M (x + 2) k) = w) 1 0) W H) W.toNat
theorem rcn_e {M1 M2 M : rhM} {x w W H : Int} (C : CtH M1 x w W H (M2 11)) (R : Prr M1 M2 W H) (h1 : M1 (x + 2) = M (x + 2)) (h2 : M1 (x + 32) = M (x + 32)) : M2 0 78 = rcn M x w W H := by
  rw [R.1]
  unfold rcn
  rw [cof_cg (fun k k0 k1 => ?_)]
  have c := (C.2.2.2 k k0 k1).2
  rw [h1, h2] at c
  rw [← c]
  by_cases q : M (x + 2) k ≠ -1 ∧ M (x + 32) (M (x + 2) k) = w
  · rw [rh_if_t q]; exact ⟨fun _ => by decide, fun _ => q⟩
  · rw [rh_if_f q]; exact ⟨fun z => absurd z q, fun z => absurd rfl z⟩
/-- the runs of all words -/
theorem l_runs (hh : rh_hs wh) (hm : rh_ms wm) {x1 p n : Int} (hp : 0 ≤ p ∧ p < 8) (hn : n ≤ 80) (A0 B0 : rhM) (P0 : Pgd A0 B0 p) (e26 : B0 26 p = n) : ∀ (m : Nat) (i : Int) (A B : rhM), i + m = n → 0 ≤ i → frx (fun c j => Fpr c j ∨ c = 241) A0 A → frx (fun c j => Gpr c j ∨ c = 72) B0 B → (∀ k, 0 ≤ k → k < i → A 241 k = B 72 k ∧ B 72 k = rcn A0 (251 + 39 * p) k (B0 4 p) (B0 5 p) ∧ 1 ≤ B 72 k ∧ B 72 k ≤ 64) →
    ∃ A' B', eS wh YX1_learnText 6 87 [(0, 2, 0), (1, 0, x1), (2, 0, p), (4, 0, n), (5, 0, i)] [] A 132 [(0, 2, 0), (1, 0, x1), (2, 0, p), (4, 0, n)] [(0, n), (2, 0)] A' ∧ eS wm YX32_learnText 5 61 [(0, 2, 0), (1, 0, x1), (2, 0, p), (5, 0, n), (6, 0, i)] [] B 95 [(0, 2, 0), (1, 0, x1), (2, 0, p), (5, 0, n)] [(0, n), (2, 0)] B' ∧ frx (fun c j => Fpr c j ∨ c = 241) A0 A' ∧ frx (fun c j => Gpr c j ∨ c = 72) B0 B' ∧ ∀ k, 0 ≤ k → k < n → A' 241 k = B' 72 k ∧ B' 72 k = rcn A0 (251 + 39 * p) k (B0 4 p) (B0 5 p) ∧ 1 ≤ B' 72 k ∧ B' 72 k ≤ 64 := by
  intro m
  induction m with
  | zero =>
    intro i A B hi i0 fA fB h
    refine ⟨A, B, eS.of (fun P HP => ?_), eS.of (fun P HP => ?_), fA, fB, fun k k0 k1 => h k k0 (by omega)⟩
    · refine rh1.of (rX1_learnText_87 hh _ _ _ _ _ ?_)
      exact ⟨fun z => by omega, fun _ => HP⟩
    · refine rh1.of (rX32_learnText_61 hm _ _ _ _ _ ?_)
      exact ⟨fun z => by omega, fun _ => HP⟩
  | succ m ih =>
    intro i A B hi i0 fA fB h
    have hA : ∀ c : Int, 251 ≤ c → A c = A0 c := fun c c0 => fA.cell (fun j => by unfold Fpr; omega)
    have hB : ∀ c : Int, (3 ≤ c ∧ c ≤ 5) ∨ (23 ≤ c ∧ c ≤ 46) → B c = B0 c := fun c c0 => fB.cell (fun j => by unfold Gpr Giw Gcl; omega)
    obtain ⟨q1, q2, q3, q4, q5⟩ := P0.fx hp.1 hA hB
    obtain ⟨r1, M1, r2, M2, K1, K2, f1, f2, PP, PR⟩ := c_prepareR hh hm hp q1 q2 q3 q4 q5 (w := i) (by rw [hB 26 (by omega), e26]; exact ⟨by omega, by omega⟩)
    have e4 : B 4 p = B0 4 p := by rw [hB 4 (by omega)]
    have e5 : B 5 p = B0 5 p := by rw [hB 5 (by omega)]
    rw [e4, e5] at PP PR
    have r78 := PP.2.2.2.2.2.2.2.1
    have h8 := PP.2.2.2.2.2.2.1
    have ec := rcn_e (M := A0) PP.1 PR (by rw [f1.cell (a := 251 + 39 * p + 2) (fun j => by unfold Fpr; omega)]; exact hA _ (by omega)) (by rw [f1.cell (a := 251 + 39 * p + 32) (fun j => by unfold Fpr; omega)]; exact hA _ (by omega))
    obtain ⟨A', B', E1, E2, rr⟩ := ih (i + 1) (rh_set M1 241 i (M1 25 8)) (rh_set M2 72 i (M2 0 78)) (by omega) (by omega) ((fA.tr (f1.w (fun c j h => .inl h))).st (by omega)) ((fB.tr (f2.w (fun c j h => .inl h))).st (by omega)) (fun k k0 k1 => by
      by_cases e : k = i
      · rw [e, rh_set_s, rh_set_s]
        exact ⟨h8, ec, r78⟩
      · rw [rh_set_j e, rh_set_j e, f1 241 k (by unfold Fpr; omega), f2 72 k (by unfold Gpr Giw Gcl; omega)]
        exact h k k0 (by omega))
    refine ⟨A', B', eS.of (fun P HP => ?_), eS.of (fun P HP => ?_), rr⟩
    · refine rh1.of (rX1_learnText_87 hh _ _ _ _ _ ?_)
      refine ⟨fun _ => ⟨⟨by omega, by omega⟩, ?_⟩, fun z => by omega⟩
      refine rh1.s (vX1_learnText_106 hh K1 (LE0 rfl)) ?_
      refine rh1.of (rX1_learnText_109 hh _ _ _ _ _ ?_)
      exact ⟨⟨by omega, by omega⟩, ⟨by omega, by omega⟩, rh1.s E1 HP⟩
    · refine rh1.of (rX32_learnText_61 hm _ _ _ _ _ ?_)
      refine ⟨fun _ => ?_, fun z => by omega⟩
      refine rh1.s (vX32_learnText_72 hm K2 (LE0 rfl)) ?_
      refine rh1.of (rX32_learnText_75 hm _ _ _ _ _ ?_)
      exact ⟨⟨by omega, by omega⟩, ⟨by omega, by omega⟩, rh1.s E2 HP⟩
end Pgd
