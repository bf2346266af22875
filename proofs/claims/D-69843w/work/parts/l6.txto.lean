/-! ===== LAYER 2: texts: the model's texts; op text ===== -/
section TxtO
variable {wh wm : rhW}
def Al (l : List Int) : Prop := ∀ a ∈ l, 0 ≤ a ∧ a ≤ 255
theorem Al.ap {l m : List Int} (h : Al l) (g : Al m) : Al (l ++ m) := fun a ha => by
  rcases List.mem_append.mp ha with z | z
  · exact h a z
  · exact g a z
theorem Al.gd {l : List Int} (h : Al l) (k : Nat) (hk : k < l.length) : 0 ≤ l.getD k 0 ∧ l.getD k 0 ≤ 255 := by
  rw [List.getD_eq_getElem?_getD, List.getElem?_eq_getElem hk]
  exact h _ (List.getElem_mem hk)
theorem Al.nil : Al [] := fun a ha => by cases ha
theorem Al.one {c : Int} (h : 0 ≤ c ∧ c ≤ 255) : Al [c] := fun a ha => by
  rcases List.mem_singleton.mp ha with rfl
  exact h
theorem Al.dg {v : Int} : Al (dg3 v) := by
  have e : ∀ x : Int, 0 ≤ 48 + x % 10 ∧ 48 + x % 10 ≤ 255 := fun x => by omega
  unfold dg3
  by_cases h : v ≤ 9
  · rw [if_pos h]
    exact Al.one (e v)
  rw [if_neg h]
  by_cases h2 : v ≤ 99
  · rw [if_pos h2]
    exact (Al.one (e (v / 10))).ap (Al.one (e v))
  · rw [if_neg h2]
    exact (Al.one (e (v / 10 / 10))).ap ((Al.one (e (v / 10))).ap (Al.one (e v)))
theorem Al.es {c : Int} (h : 0 ≤ c ∧ c ≤ 255) : Al (esc c) := by
  unfold esc Al
  by_cases h1 : c = 38
  · rw [if_pos h1]; decide
  rw [if_neg h1]
  by_cases h2 : c = 60
  · rw [if_pos h2]; decide
  rw [if_neg h2]
  by_cases h3 : c = 62
  · rw [if_pos h3]; decide
  rw [if_neg h3]
  exact Al.one h
theorem Al.wt {M : rhM} {k mk : Int} : ∀ t : Nat, (∀ s : Nat, s < t → 0 ≤ wch M k s ∧ wch M k s ≤ 255) → Al (wtx M k mk t)
  | 0 => fun _ => Al.nil
  | t + 1 => fun h => by
    simp only [wtx]
    refine (Al.wt t (fun s hs => h s (by omega))).ap ?_
    by_cases z : mk = 0
    · rw [if_pos z]; exact Al.one (h t (by omega))
    · rw [if_neg z]; exact Al.es (h t (by omega))
theorem Al.nm {M : rhM} {k : Int} : ∀ i : Nat, Al (nms M k i)
  | 0 => Al.nil
  | i + 1 => by
    simp only [nms]
    exact (Al.nm i).ap ((Al.one (by decide)).ap Al.dg)
theorem Al.ht {M : rhM} {r N mk : Int} (W : Wds M r N) : ∀ j : Nat, (j : Int) ≤ N → Al (htx M r N mk j)
  | 0 => fun _ => Al.nil
  | j + 1 => fun hj => by
    obtain ⟨w1, w2⟩ := W j (by omega) (by omega)
    have a1 : ∀ m : Int, Al (wtx M (80 * r + j) m (wsz M (80 * r + j)).toNat) := fun m => Al.wt _ (fun s hs => by have := w2 s (by omega) (by omega); omega)
    simp only [htx]
    refine (Al.ht W j (by omega)).ap (Al.ap ?_ (Al.ap ?_ ?_))
    · unfold hpr Al
      by_cases h : mk = 0
      · rw [rh_if_t h]
        by_cases g : lnN M r j
        · rw [rh_if_t g]; decide
        · rw [rh_if_f g]; decide
      · rw [rh_if_f h]
        by_cases g : bkN M r j
        · rw [rh_if_t g]; decide
        · rw [rh_if_f g]
          by_cases k : lnN M r j
          · rw [rh_if_t k]; decide
          · rw [rh_if_f k]; decide
    · unfold hwd
      by_cases g : mk = 0
      · rw [rh_if_t g]
        exact a1 0
      · rw [rh_if_f g]
        unfold mkw
        exact ((((show Al [60, 119] by unfold Al; decide).ap (Al.nm 5)).ap (Al.one (by decide))).ap (a1 1)).ap (show Al [60, 47, 119, 62] by unfold Al; decide)
    · unfold hpo Al
      by_cases h : mk = 0
      · rw [rh_if_t h]
        by_cases g : bkE M r N j
        · rw [rh_if_t g]; decide
        · rw [rh_if_f g]
          by_cases k : lnE M r N j
          · rw [rh_if_t k]; decide
          · rw [rh_if_f k]; decide
      · rw [rh_if_f h]
        by_cases g : bkE M r N j
        · rw [rh_if_t g]; decide
        · rw [rh_if_f g]
          by_cases k : lnE M r N j
          · rw [rh_if_t k]; decide
          · rw [rh_if_f k]; decide
/-- the signs of a word, plain -/
theorem m_plL (hm : rh_ms wm) {r j : Int} {n : Nat} {M : rhM} (hr : 0 ≤ r ∧ r < 4) (hj : 0 ≤ j ∧ j < 80) (hn : n ≤ 12) (hw : wsz M (80 * r + j) = n) {l : List Int} (hl : l.length ≤ 15000) : ∀ (u t : Nat) (B1 : rhM), t + u = n → Mox B1 (l ++ wtx M (80 * r + j) 0 t) → frx Fptx M B1 → ∃ B', (∀ P : Int → rhM → Prop, rh1 wm YX32_plainText 1 27 [(0, 2, 0), (1, 0, r), (2, 0, j), (3, 0, 80 * r + j), (4, 0, (n : Int))] [] B' P → rh1 wm YX32_plainText 1 27 [(0, 2, 0), (1, 0, r), (2, 0, j), (3, 0, 80 * r + j), (4, 0, (t : Int))] [] B1 P) ∧ Mox B' (l ++ wtx M (80 * r + j) 0 n) ∧ frx Fptx M B' := by
  intro u
  induction u with
  | zero =>
    intro t B1 ht o1 f1
    have e : t = n := by omega
    subst e
    exact ⟨B1, fun P K => K, o1, f1⟩
  | succ u ih =>
    intro t B1 ht o1 f1
    have wz := wsz_f f1 (fun c i c0 c1 => by unfold Fptx; omega) (80 * r + j)
    have hw' : rh_if ((B1 123 (80 * r + j)) = 1) (B1 128 (80 * r + j)) (B1 125 (4 * (80 * r + j))) = n := wz.1.trans hw
    have hv' : rh_if ((B1 123 (80 * r + j)) = 1) (B1 127 ((12 * (80 * r + j)) + t)) (B1 126 ((48 * (80 * r + j)) + t)) = wch M (80 * r + j) t := wz.2 t
    have wl := wtx_l (M := M) (k := 80 * r + j) (mk := 0) t
    have lb : (l ++ wtx M (80 * r + j) 0 t).length ≤ 15060 := by rw [List.length_append]; omega
    have o2 := o1.ad (wch M (80 * r + j) t)
    have b0 := apg_ob (c := wch M (80 * r + j) t) o1.1 ⟨by omega, by omega⟩
    rw [List.append_assoc] at o2
    obtain ⟨B', E, g1, g2⟩ := ih (t + 1) _ (by omega) o2 (f1.tr apg_f)
    refine ⟨B', fun P K => ?_, g1, g2⟩
    refine rh1.of (rX32_plainText_27 hm _ _ _ _ _ ?_)
    rw [hw', hv']
    exact ⟨⟨by omega, by omega⟩, fun _ => ⟨by omega, by omega⟩, fun _ => ⟨by omega, by omega⟩, fun _ => ⟨⟨by omega, by omega⟩, fun _ => ⟨by omega, by omega⟩, fun _ => ⟨by omega, by omega⟩, b0.1, b0.2, ⟨by omega, by omega⟩, E P K⟩, fun z => by omega⟩
noncomputable def sepp (M : rhM) (r N j : Int) : List Int := rh_if (0 < j ∧ j < N ∧ ¬ lnN M r j) [32] []
theorem sep_pr {M : rhM} {r N j : Int} (h : 0 ≤ j ∧ j < N) : sepp M r N j = hpr M r 0 j := by
  unfold sepp hpr
  rw [rh_if_t rfl]
  by_cases q : lnN M r j
  · rw [rh_if_t q, rh_if_f (fun z => z.2.2 q)]
  · rw [rh_if_f q, rh_if_t ⟨by have : ¬ j = 0 := fun z => q (.inl z); omega, h.2, q⟩]
theorem lnE_N {M : rhM} {r N j : Int} (h : lnE M r N j) : sepp M r N (j + 1) = [] := by
  unfold sepp
  refine rh_if_f (fun z => ?_)
  rcases h with h | h
  · omega
  · exact z.2.2 (.inr (by rw [show j + 1 - 1 = j by omega]; exact Ne.symm h))
theorem nlnE_N {M : rhM} {r N j : Int} (hj : 0 ≤ j ∧ j < N) (h : ¬ lnE M r N j) : sepp M r N (j + 1) = [32] := by
  unfold sepp
  have h1 : ¬ j + 1 = N := fun z => h (.inl z)
  have h2 : M 119 (80 * r + j) = M 119 (80 * r + (j + 1)) := Classical.not_not.mp (fun z => h (.inr z))
  refine rh_if_t ⟨by omega, by omega, fun z => ?_⟩
  rcases z with z | z
  · omega
  · rw [show j + 1 - 1 = j by omega] at z
    exact z h2.symm
/-- one line, one block -/
def SmB (M : rhM) (r N : Int) : Prop := ∀ i j : Int, 0 ≤ i → i < N → 0 ≤ j → j < N → M 119 (80 * r + i) = M 119 (80 * r + j) → M 120 (80 * r + i) = M 120 (80 * r + j)
theorem SmB.e {M : rhM} {r N j : Int} (S : SmB M r N) (hj : 0 ≤ j ∧ j < N) (h : ¬ lnE M r N j) : ¬ bkE M r N j := fun z => by
  have h1 : ¬ j + 1 = N := fun z => h (.inl z)
  have h2 : M 119 (80 * r + j) = M 119 (80 * r + (j + 1)) := Classical.not_not.mp (fun z => h (.inr z))
  rcases z with z | z
  · exact h1 z
  · exact z (S j (j + 1) hj.1 hj.2 (by omega) (by omega) h2)
theorem SmB.n {M : rhM} {r N j : Int} (S : SmB M r N) (hj : 0 ≤ j ∧ j < N) (h : ¬ lnN M r j) : ¬ bkN M r j := fun z => by
  have h1 : ¬ j = 0 := fun z => h (.inl z)
  have h2 : M 119 (80 * r + j) = M 119 (80 * r + (j - 1)) := Classical.not_not.mp (fun z => h (.inr z))
  rcases z with z | z
  · exact h1 z
  · exact z (S j (j - 1) hj.1 hj.2 (by omega) (by omega) h2)
theorem y_iff {M B1 : rhM} {c r N j y : Int} (f : ∀ i, B1 c i = M c i) (hy : y = rh_if (j + 1 = N) (1 : Int) 0) : ((y ≠ 0) ∨ ((B1 c ((80 * r + j) + 1)) ≠ (B1 c (80 * r + j)))) ↔ (j + 1 = N ∨ M c (80 * r + j) ≠ M c (80 * r + (j + 1))) := by
  rw [f, f, Int.add_assoc]
  by_cases h : j + 1 = N
  · rw [rh_if_t h] at hy
    exact ⟨fun _ => .inl h, fun _ => .inl (by rw [hy]; decide)⟩
  · rw [rh_if_f h] at hy
    refine ⟨fun z => ?_, fun z => ?_⟩
    · rcases z with z | z
      · exact absurd hy z
      · exact .inr (Ne.symm z)
    · rcases z with z | z
      · exact absurd z h
      · exact .inr (Ne.symm z)
theorem c_plain (hm : rh_ms wm) {r : Int} {N : Nat} {M B : rhM} (hr : 0 ≤ r ∧ r < 4) (hN : N ≤ 80) (h4 : M 114 r = N) (W : Wds M r N) (S : SmB M r N) (f : frx Fptx M B) : ∃ B', eC wm YX32_plainText 1 [(2, 0), (0, r)] B 0 B' ∧ Mox B' (htx M r N 0 N) ∧ frx Fptx M B' := by
  have key : ∀ (u j : Nat) (B1 : rhM), j + u = N → Mox B1 (htx M r N 0 j ++ sepp M r N j) → frx Fptx M B1 → ∃ B', (∀ P : Int → rhM → Prop, P 0 B' → rh1 wm YX32_plainText 1 7 [(0, 2, 0), (1, 0, r), (2, 0, (j : Int))] [] B1 P) ∧ Mox B' (htx M r N 0 N) ∧ frx Fptx M B' := by
    intro u
    induction u with
    | zero =>
      intro j B1 hj o1 f1
      have e : j = N := by omega
      subst e
      have e1 : B1 114 r = (j : Int) := by rw [f1 _ _ (by unfold Fptx; omega)]; exact h4
      refine ⟨B1, fun P K => ?_, ?_, f1⟩
      · refine rh1.of (rX32_plainText_7 hm _ _ _ ?_)
        rw [e1]
        exact ⟨⟨by omega, by omega⟩, fun z => by omega, fun _ => K⟩
      · unfold sepp at o1
        rw [rh_if_f (fun z => by omega), List.append_nil] at o1
        exact o1
    | succ u ih =>
      intro j B1 hj o1 f1
      have jN : (0 : Int) ≤ j ∧ (j : Int) < N := ⟨by omega, by omega⟩
      have e1 : B1 114 r = (N : Int) := by rw [f1 _ _ (by unfold Fptx; omega)]; exact h4
      obtain ⟨n, hn⟩ : ∃ n : Nat, wsz M (80 * r + j) = n := ⟨(wsz M (80 * r + j)).toNat, (by have := (W j jN.1 jN.2).1; omega)⟩
      have Wj := (W j jN.1 jN.2).1
      have hl := htx_l (M := M) (r := r) (N := N) (mk := 0) (fun i i0 i1 => (W i i0 i1).1.2) j (by omega)
      have l1 := hpr_l (M := M) (r := r) (mk := 0) (j := (j : Int))
      rw [sep_pr jN] at o1
      obtain ⟨B2, E2, o2, f2⟩ := m_plL hm (n := n) (l := htx M r N 0 j ++ hpr M r 0 j) hr ⟨jN.1, by omega⟩ (by omega) hn (by rw [List.length_append]; omega) n 0 B1 (by omega) (by simp only [wtx]; rw [List.append_nil]; exact o1) f1
      have wl := wtx_l (M := M) (k := 80 * r + j) (mk := 0) n
      have lb : (htx M r N 0 j ++ hpr M r 0 j ++ wtx M (80 * r + j) 0 n).length ≤ 15000 := by rw [List.length_append, List.length_append]; omega
      have eh : hwd M (80 * r + j) 0 = wtx M (80 * r + j) 0 n := by unfold hwd; rw [rh_if_t rfl, hn, Int.toNat_natCast]
      have wz := wsz_f f2 (fun c i c0 c1 => by unfold Fptx; omega) (80 * r + j)
      have hw' : rh_if ((B2 123 (80 * r + j)) = 1) (B2 128 (80 * r + j)) (B2 125 (4 * (80 * r + j))) = n := wz.1.trans hn
      have e2 : B2 114 r = (N : Int) := by rw [f2 _ _ (by unfold Fptx; omega)]; exact h4
      obtain ⟨y, hy⟩ : ∃ y, y = rh_if ((j : Int) + 1 = N) (1 : Int) 0 := ⟨_, rfl⟩
      have y0 : y = 0 → (j : Int) + 1 < N := fun z => by
        by_cases e : (j : Int) + 1 = N
        · rw [rh_if_t e] at hy; omega
        · omega
      have i1 := y_iff (r := r) (c := 119) (M := M) (B1 := B2) (fun i => f2 _ _ (by unfold Fptx; omega)) hy
      have f3 : ∀ c, frx Fptx M (apg 140 177 B2 c) := fun c => f2.tr apg_f
      have i2 := y_iff (r := r) (c := 120) (M := M) (B1 := apg 140 177 B2 10) (fun i => f3 10 _ _ (by unfold Fptx; omega)) hy
      have start : ∀ P : Int → rhM → Prop, rh1 wm YX32_plainText 1 27 [(0, 2, 0), (1, 0, r), (2, 0, (j : Int)), (3, 0, 80 * r + j), (4, 0, (n : Int))] [] B2 P → rh1 wm YX32_plainText 1 7 [(0, 2, 0), (1, 0, r), (2, 0, (j : Int))] [] B1 P := fun P HP => by
        refine rh1.of (rX32_plainText_7 hm _ _ _ ?_)
        rw [e1]
        exact ⟨⟨by omega, by omega⟩, fun _ => ⟨⟨by omega, by omega⟩, E2 P HP⟩, fun z => by omega⟩
      have b10 := apg_ob (c := 10) o2.1 ⟨by omega, by omega⟩
      have b32 := apg_ob (c := 32) o2.1 ⟨by omega, by omega⟩
      have o10 := o2.ad 10
      have b11 := apg_ob (c := 10) o10.1 ⟨by omega, by rw [ap1l]; omega⟩
      -- what is left
      have fin : ∀ B3 : rhM, Mox B3 (htx M r N 0 j ++ hpr M r 0 j ++ wtx M (80 * r + j) 0 n ++ (hpo M r N 0 j ++ sepp M r N (j + 1))) → frx Fptx M B3 → (∀ P : Int → rhM → Prop, rh1 wm YX32_plainText 1 7 [(0, 2, 0), (1, 0, r), (2, 0, (j : Int) + 1)] [] B3 P → rh1 wm YX32_plainText 1 27 [(0, 2, 0), (1, 0, r), (2, 0, (j : Int)), (3, 0, 80 * r + j), (4, 0, (n : Int))] [] B2 P) → ∃ B', (∀ P : Int → rhM → Prop, P 0 B' → rh1 wm YX32_plainText 1 7 [(0, 2, 0), (1, 0, r), (2, 0, (j : Int))] [] B1 P) ∧ Mox B' (htx M r N 0 N) ∧ frx Fptx M B' := fun B3 o3 g3 H => by
        have e : htx M r N 0 j ++ hpr M r 0 j ++ wtx M (80 * r + j) 0 n ++ (hpo M r N 0 j ++ sepp M r N (j + 1)) = htx M r N 0 (j + 1) ++ sepp M r N ((j + 1 : Nat) : Int) := by
          simp only [htx]
          rw [eh]
          simp only [List.append_assoc]
          rfl
        rw [e] at o3
        obtain ⟨B', E, g1, g2⟩ := ih (j + 1) B3 (by omega) o3 g3
        exact ⟨B', fun P K => start P (H P (E P K)), g1, g2⟩
      by_cases q1 : lnE M r N j
      · by_cases q2 : bkE M r N j
        · refine fin (apg 140 177 (apg 140 177 B2 10) 10) ?_ ((f3 10).tr apg_f) (fun P K => ?_)
          · have e : hpo M r N 0 j ++ sepp M r N (j + 1) = [10] ++ [10] := by
              rw [lnE_N q1]
              unfold hpo
              rw [rh_if_t rfl, rh_if_t q2]
              rfl
            rw [e, ← List.append_assoc]
            exact o10.ad 10
          · refine rh1.of (rX32_plainText_27 hm _ _ _ _ _ ?_)
            rw [hw', e2, ← hy]
            refine ⟨⟨by omega, by omega⟩, fun _ => ⟨by omega, by omega⟩, fun _ => ⟨by omega, by omega⟩, fun z => by omega, fun _ => ⟨⟨by omega, by omega⟩, ⟨by omega, by omega⟩, fun s hs => ?_⟩⟩
            rw [hs]
            refine ⟨fun z => by have := y0 z; exact ⟨by omega, by omega⟩, fun z => by have := y0 z; exact ⟨by omega, by omega⟩, fun _ => ⟨b10.1, b10.2, fun z => by have := y0 z; exact ⟨by omega, by omega⟩, fun z => by have := y0 z; exact ⟨by omega, by omega⟩, fun _ M3 e3 => ?_, fun z => absurd (i2.mpr q2) z⟩, fun z => absurd (i1.mpr q1) z⟩
            subst e3
            exact ⟨b11.1, b11.2, ⟨by omega, by omega⟩, K⟩
        · refine fin (apg 140 177 B2 10) ?_ (f3 10) (fun P K => ?_)
          · have e : hpo M r N 0 j ++ sepp M r N (j + 1) = [10] := by
              rw [lnE_N q1]
              unfold hpo
              rw [rh_if_t rfl, rh_if_f q2, rh_if_t q1]
              rfl
            rw [e]
            exact o10
          · refine rh1.of (rX32_plainText_27 hm _ _ _ _ _ ?_)
            rw [hw', e2, ← hy]
            refine ⟨⟨by omega, by omega⟩, fun _ => ⟨by omega, by omega⟩, fun _ => ⟨by omega, by omega⟩, fun z => by omega, fun _ => ⟨⟨by omega, by omega⟩, ⟨by omega, by omega⟩, fun s hs => ?_⟩⟩
            rw [hs]
            exact ⟨fun z => by have := y0 z; exact ⟨by omega, by omega⟩, fun z => by have := y0 z; exact ⟨by omega, by omega⟩, fun _ => ⟨b10.1, b10.2, fun z => by have := y0 z; exact ⟨by omega, by omega⟩, fun z => by have := y0 z; exact ⟨by omega, by omega⟩, fun z => absurd (i2.mp z) q2, fun _ => ⟨⟨by omega, by omega⟩, K⟩⟩, fun z => absurd (i1.mpr q1) z⟩
      · have q2 := S.e jN q1
        refine fin (apg 140 177 B2 32) ?_ (f3 32) (fun P K => ?_)
        · have e : hpo M r N 0 j ++ sepp M r N (j + 1) = [32] := by
            rw [nlnE_N jN q1]
            unfold hpo
            rw [rh_if_t rfl, rh_if_f q2, rh_if_f q1]
            rfl
          rw [e]
          exact o2.ad 32
        · refine rh1.of (rX32_plainText_27 hm _ _ _ _ _ ?_)
          rw [hw', e2, ← hy]
          refine ⟨⟨by omega, by omega⟩, fun _ => ⟨by omega, by omega⟩, fun _ => ⟨by omega, by omega⟩, fun z => by omega, fun _ => ⟨⟨by omega, by omega⟩, ⟨by omega, by omega⟩, fun s hs => ?_⟩⟩
          rw [hs]
          exact ⟨fun z => by have := y0 z; exact ⟨by omega, by omega⟩, fun z => by have := y0 z; exact ⟨by omega, by omega⟩, fun z => absurd (i1.mp z) q1, fun _ => ⟨b32.1, b32.2, ⟨by omega, by omega⟩, K⟩⟩
  have s0 : sepp M r N ((0 : Nat) : Int) = [] := rh_if_f (fun z => by omega)
  obtain ⟨B', E, g1, g2⟩ := key N 0 (rh_set B 0 177 0) (by omega) (by rw [s0]; simp only [htx]; exact ⟨rh_set_s _ _ _ _, fun k k0 => absurd k0 (Nat.not_lt_zero _)⟩) (f.st (by unfold Fptx; omega))
  refine ⟨B', eC.of1 (rC1.of (by decide) (LE0 rfl) ?_), g1, g2⟩
  refine rh1.of (rX32_plainText_0 hm _ _ ?_)
  exact E _ ⟨rfl, rfl⟩
end TxtO
