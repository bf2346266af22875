/-! ===== LAYER 2: texts as lists: the draft of the house, the line of the model ===== -/
section TxtA
variable {wh wm : rhW}
def Hox (A : rhM) (l : List Int) : Prop := A 4 3 = l.length ∧ ∀ k : Nat, k < l.length → k < 6000 → A 6 k = rh_i2b (l.getD k 0)
def Mox (B : rhM) (l : List Int) : Prop := B 0 177 = l.length ∧ ∀ k : Nat, k < l.length → B 140 k = l.getD k 0
noncomputable def had (A : rhM) (c : Int) : rhM := rh_set (rh_if ((A 4 3) < 6000) (rh_set A 6 (A 4 3) (rh_i2b c)) A) 4 3 (((rh_if ((A 4 3) < 6000) (rh_set A 6 (A 4 3) (rh_i2b c)) A) 4 3) + 1)
def Fdr (c j : Int) : Prop := (c = 4 ∧ j = 3) ∨ c = 6
theorem gda {l : List Int} {c : Int} {k : Nat} (h : k < l.length) : (l ++ [c]).getD k 0 = l.getD k 0 := by
  rw [List.getD_eq_getElem?_getD, List.getD_eq_getElem?_getD, List.getElem?_append_left h]
theorem gdb {l : List Int} {c : Int} : (l ++ [c]).getD l.length 0 = c := by
  rw [List.getD_eq_getElem?_getD, List.getElem?_append_right (Nat.le_refl _), Nat.sub_self]
  rfl
theorem had_t {A : rhM} {c : Int} (h : A 4 3 < 6000) : had A c = rh_set (rh_set A 6 (A 4 3) (rh_i2b c)) 4 3 (A 4 3 + 1) := by
  unfold had
  rw [rh_if_t h, rh_set_a (by decide)]
theorem had_u {A : rhM} {c : Int} (h : ¬ A 4 3 < 6000) : had A c = rh_set A 4 3 (A 4 3 + 1) := by
  unfold had
  rw [rh_if_f h]
theorem had_f {A : rhM} {c : Int} : frx Fdr A (had A c) := by
  by_cases h : A 4 3 < 6000
  · rw [had_t h]
    exact (frx.rf.st (by unfold Fdr; omega)).st (by unfold Fdr; omega)
  · rw [had_u h]
    exact frx.rf.st (by unfold Fdr; omega)
theorem had_o {A : rhM} {c n : Int} (h : A 4 3 = n) (hn : 0 ≤ n ∧ n ≤ 100000) : (((A 4 3) < 6000) → ((0 ≤ (A 4 3)) ∧ ((A 4 3) < 6000))) ∧ rI (((rh_if ((A 4 3) < 6000) (rh_set A 6 (A 4 3) (rh_i2b c)) A) 4 3) + 1) := by
  refine ⟨fun z => by rw [h] at z ⊢; exact ⟨by omega, by omega⟩, ?_⟩
  by_cases q : A 4 3 < 6000
  · rw [rh_if_t q, rh_set_a (by decide), h]
    exact ⟨by omega, by omega⟩
  · rw [rh_if_f q, h]
    exact ⟨by omega, by omega⟩
theorem Hox.ad {A : rhM} {l : List Int} (h : Hox A l) (c : Int) : Hox (had A c) (l ++ [c]) := by
  obtain ⟨h1, h2⟩ := h
  have ln : (l ++ [c]).length = l.length + 1 := by rw [List.length_append]; rfl
  by_cases q : A 4 3 < 6000
  · rw [had_t q]
    refine ⟨by rw [rh_set_s, ln, h1]; omega, fun k k0 k1 => ?_⟩
    rw [rh_set_a (by decide)]
    by_cases e : k = l.length
    · rw [e, gdb, ← h1, rh_set_s]
    · rw [rh_set_j (by omega), gda (by omega)]
      exact h2 k (by omega) k1
  · rw [had_u q]
    refine ⟨by rw [rh_set_s, ln, h1]; omega, fun k k0 k1 => ?_⟩
    rw [rh_set_a (by decide), gda (by omega)]
    exact h2 k (by omega) k1
theorem Mox.ad {B : rhM} {l : List Int} (h : Mox B l) (c : Int) : Mox (apg 140 177 B c) (l ++ [c]) := by
  obtain ⟨h1, h2⟩ := h
  have ln : (l ++ [c]).length = l.length + 1 := by rw [List.length_append]; rfl
  refine ⟨by rw [apg_p (by decide), ln, h1]; omega, fun k k0 => ?_⟩
  by_cases e : k = l.length
  · rw [e, gdb, ← h1, apg_s (by decide)]
  · rw [apg_o (fun _ => by omega) (fun z => by omega), gda (by omega)]
    exact h2 k (by omega)
def Fptx (c j : Int) : Prop := c = 140 ∨ (c = 0 ∧ (j = 177 ∨ j = 0))
theorem apg_f {B : rhM} {c : Int} : frx Fptx B (apg 140 177 B c) := fun a i h => apg_o (fun e => absurd (.inl e) h) (fun e e2 => h (.inr ⟨e, .inl e2⟩))
theorem apg_ob {B : rhM} {c n : Int} (h : B 0 177 = n) (hn : 0 ≤ n ∧ n < 16000) : ((0 ≤ (B 0 177)) ∧ ((B 0 177) < 16000)) ∧ rI (((rh_set B 140 (B 0 177) c) 0 177) + 1) := by
  rw [rh_set_a (by decide), h]
  exact ⟨hn, ⟨by omega, by omega⟩⟩
/-- what is asked of a text -/
def Sok (l : List Int) : Prop := rh_shr (l.length : Int) 0 = (l.length : Int) ∧ l.length ≤ 100 ∧ ∀ a ∈ l, 0 ≤ a ∧ a ≤ 127
theorem c_addS (hh : rh_hs wh) {i : Nat} {q : String × Nat × String × List Int} (hq : rh_st[i]? = some q) (S : Sok q.2.2.2) {A : rhM} {l : List Int} (h : Hox A l) (hl : l.length ≤ 20000) : ∃ A', eC wh YX4_add_2 4 [(2, 4), (9, (i : Int))] A 0 A' ∧ Hox A' (l ++ q.2.2.2) ∧ frx Fdr A A' := by
  obtain ⟨s1, s2, s3⟩ := S
  have key : ∀ (u k : Nat) (A1 : rhM), k + u = q.2.2.2.length → Hox A1 (l ++ q.2.2.2.take k) → frx Fdr A A1 → ∃ A', (∀ P : Int → rhM → Prop, P 0 A' → rh1 wh YX4_add_2 4 2 [(0, 2, 4), (1, 9, (i : Int)), (2, 0, (k : Int))] [] A1 P) ∧ Hox A' (l ++ q.2.2.2) ∧ frx Fdr A A' := by
    intro u
    induction u with
    | zero =>
      intro k A1 hk ho f
      refine ⟨A1, fun P K => ?_, by rw [List.take_of_length_le (by omega)] at ho; exact ho, f⟩
      refine rh1.of (rX4_add_2_2 hh _ _ _ ?_)
      refine rh1.s (wX4_add_2_4 (st_lt hq) (by decide : 1 < 4) (c_length hq s1 (by omega) A1) (LE0 rfl)) ?_
      refine rh1.of (rX4_add_2_7 hh _ _ _ _ _ ?_)
      exact ⟨fun z => by omega, fun _ => K⟩
    | succ u ih =>
      intro k A1 hk ho f
      have kl : k < q.2.2.2.length := by omega
      have ho2 := ho.ad (q.2.2.2.getD k 0)
      have et : l ++ q.2.2.2.take k ++ [q.2.2.2.getD k 0] = l ++ q.2.2.2.take (k + 1) := by
        rw [List.append_assoc, List.take_succ, List.getD_eq_getElem?_getD, List.getElem?_eq_getElem kl]
        rfl
      rw [et] at ho2
      obtain ⟨A', E, g1, g2⟩ := ih (k + 1) _ (by omega) ho2 (f.tr had_f)
      refine ⟨A', fun P K => ?_, g1, g2⟩
      have ln : A1 4 3 = ((l ++ q.2.2.2.take k).length : Nat) := ho.1
      have lb : (l ++ q.2.2.2.take k).length ≤ 20100 := by
        rw [List.length_append, List.length_take]
        omega
      have ob := had_o (c := q.2.2.2.getD k 0) ln ⟨by omega, by omega⟩
      refine rh1.of (rX4_add_2_2 hh _ _ _ ?_)
      refine rh1.s (wX4_add_2_4 (st_lt hq) (by decide : 1 < 4) (c_length hq s1 (by omega) A1) (LE0 rfl)) ?_
      refine rh1.of (rX4_add_2_7 hh _ _ _ _ _ ?_)
      refine ⟨fun _ => ?_, fun z => by omega⟩
      have C := c_charAt (w := wh) (j := (k : Int)) hq (by omega) s3 ⟨by omega, by omega⟩ A1
      rw [Int.toNat_natCast] at C
      refine rh1.s (wX4_add_2_13 (st_lt hq) (by decide : 3 < 4) C (LE0 rfl)) ?_
      refine rh1.of (rX4_add_2_16 hh _ _ _ _ ?_)
      exact ⟨ob.1, ob.2, ⟨by omega, by omega⟩, E P K⟩
  obtain ⟨A', E, g1, g2⟩ := key q.2.2.2.length 0 A (by omega) (by rw [List.take_zero, List.append_nil]; exact h) frx.rf
  refine ⟨A', eC.of1 (rC1.of (by decide) (LE0 rfl) ?_), g1, g2⟩
  refine rh1.of (rX4_add_2_0 hh _ _ ?_)
  exact E _ ⟨rfl, rfl⟩
/-- a number's digits -/
noncomputable def dg3 (v : Int) : List Int := if v ≤ 9 then [48 + v % 10] else if v ≤ 99 then [48 + v / 10 % 10, 48 + v % 10] else [48 + v / 10 / 10 % 10, 48 + v / 10 % 10, 48 + v % 10]
theorem dg3_l {v : Int} : (dg3 v).length ≤ 3 := by
  unfold dg3
  by_cases h : v ≤ 9
  · rw [if_pos h]; exact (by decide : 1 ≤ 3)
  · rw [if_neg h]
    by_cases h2 : v ≤ 99
    · rw [if_pos h2]; exact (by decide : 2 ≤ 3)
    · rw [if_neg h2]; exact (by decide : 3 ≤ 3)
theorem h_num1 (hh : rh_hs wh) {v : Int} (hv : 0 ≤ v ∧ v ≤ 9) {A : rhM} {l : List Int} (h : Hox A l) (hl : l.length ≤ 20000) : eC wh YX4_number (2 + 0) [(2, 4), (0, v)] A 0 (had A (48 + v % 10)) := by
  refine eC.of1 (rC1.of (by decide) (LE0 rfl) ?_)
  have ob := had_o (c := 48 + v % 10) h.1 ⟨by omega, by omega⟩
  refine rh1.up (rX4_number_0 hh _ _ ?_)
  exact ⟨fun z => by omega, fun _ => ⟨⟨by omega, by omega⟩, ⟨by omega, by omega⟩, ob.1, ob.2, rfl, rfl⟩⟩
theorem h_numS (hh : rh_hs wh) {v : Int} {k : Nat} (hv : 9 < v ∧ v ≤ 999) {A A1 : rhM} {l : List Int} (E : eC wh YX4_number (2 + k) [(2, 4), (0, v / 10)] A 0 A1) (h : Hox A1 l) (hl : l.length ≤ 20010) : eC wh YX4_number (2 + (k + 1)) [(2, 4), (0, v)] A 0 (had A1 (48 + v % 10)) := by
  refine eC.of1 (rC1.of (by decide) (LE0 rfl) ?_)
  have ob := had_o (c := 48 + v % 10) h.1 ⟨by omega, by omega⟩
  refine rh1.up (rX4_number_0 hh _ _ ?_)
  refine ⟨fun _ => ⟨⟨by omega, by omega⟩, ?_⟩, fun z => absurd hv.1 z⟩
  refine rh1.s (wX4_number_11 hh (by omega) E (LE0 rfl)) ?_
  refine rh1.up (rX4_number_14 hh _ _ ?_)
  exact ⟨⟨by omega, by omega⟩, ⟨by omega, by omega⟩, ob.1, ob.2, rfl, rfl⟩
theorem c_outN (hh : rh_hs wh) {v : Int} (hv : 0 ≤ v ∧ v ≤ 255) {A : rhM} {l : List Int} (h : Hox A l) (hl : l.length ≤ 20000) : ∃ A', eC wh YX4_number (2 + 2) [(2, 4), (0, v)] A 0 A' ∧ Hox A' (l ++ dg3 v) ∧ frx Fdr A A' := by
  unfold dg3
  by_cases h1 : v ≤ 9
  · rw [if_pos h1]
    exact ⟨_, eC.up 2 (h_num1 hh ⟨hv.1, h1⟩ h hl), h.ad _, had_f⟩
  rw [if_neg h1]
  by_cases h2 : v ≤ 99
  · rw [if_pos h2]
    have o1 := h.ad (48 + v / 10 % 10)
    have E := h_num1 hh (v := v / 10) ⟨by omega, by omega⟩ h hl
    have o2 := o1.ad (48 + v % 10)
    rw [List.append_assoc] at o2
    refine ⟨_, eC.up 1 (h_numS hh (k := 0) ⟨by omega, by omega⟩ E o1 (by rw [List.length_append, List.length_singleton]; omega)), o2, had_f.tr had_f⟩
  · rw [if_neg h2]
    have o1 := h.ad (48 + v / 10 / 10 % 10)
    have E := h_num1 hh (v := v / 10 / 10) ⟨by omega, by omega⟩ h hl
    have o2 := o1.ad (48 + v / 10 % 10)
    have E2 := h_numS hh (v := v / 10) (k := 0) ⟨by omega, by omega⟩ E o1 (by rw [List.length_append, List.length_singleton]; omega)
    have o3 := o2.ad (48 + v % 10)
    rw [List.append_assoc, List.append_assoc] at o3
    exact ⟨_, h_numS hh (k := 1) ⟨by omega, by omega⟩ E2 o2 (by rw [List.length_append, List.length_append, List.length_singleton, List.length_singleton]; omega), o3, (had_f.tr had_f).tr had_f⟩
/-- the model puts a number -/
theorem m_numD (hm : rh_ms wm) {v u : Int} (hv : 0 ≤ v ∧ v ≤ 255) (hu : 0 < u ∧ u ≤ 100) {B : rhM} {l : List Int} (h : Mox B l) (hl : l.length ≤ 15990) (P : Int → rhM → Prop) (K : rh1 wm YX32_putNumber 1 20 [(0, 2, 0), (1, 0, v), (3, 0, u / 10)] [] (apg 140 177 B (48 + v / u % 10)) P) : rh1 wm YX32_putNumber 1 20 [(0, 2, 0), (1, 0, v), (3, 0, u)] [] B P := by
  have d0 : 0 ≤ v / u := Int.ediv_nonneg hv.1 (by omega)
  have d1 : 0 ≤ v / u % 10 := Int.emod_nonneg _ (by decide)
  have d2 : v / u % 10 < 10 := Int.emod_lt_of_pos _ (by decide)
  have ob := apg_ob (c := 48 + v / u % 10) h.1 ⟨by omega, by omega⟩
  refine rh1.of (rX32_putNumber_20 hm _ _ _ ?_)
  exact ⟨fun _ => ⟨⟨by omega, by omega⟩, ⟨d0, by decide⟩, ⟨by omega, by omega⟩, ob.1, ob.2, ⟨by omega, by omega⟩, K⟩, fun z => absurd hu.1 z⟩
theorem m_numE0 (hm : rh_ms wm) {v : Int} {B : rhM} (P : Int → rhM → Prop) (K : P 0 B) : rh1 wm YX32_putNumber 1 20 [(0, 2, 0), (1, 0, v), (3, 0, 0)] [] B P := by
  refine rh1.of (rX32_putNumber_20 hm _ _ _ ?_)
  exact ⟨fun z => by omega, fun _ => K⟩
theorem c_putN (hm : rh_ms wm) {v : Int} (hv : 0 ≤ v ∧ v ≤ 255) {B : rhM} {l : List Int} (h : Mox B l) (hl : l.length ≤ 15900) : ∃ B', eC wm YX32_putNumber 1 [(2, 0), (0, v)] B 0 B' ∧ Mox B' (l ++ dg3 v) ∧ frx Fptx B B' := by
  have l1 : ∀ c : Int, (l ++ [c]).length = l.length + 1 := fun c => by rw [List.length_append]; rfl
  have l2 : ∀ c d : Int, (l ++ [c] ++ [d]).length = l.length + 2 := fun c d => by rw [List.length_append, l1]; rfl
  have e1 : v / 1 = v := Int.ediv_one v
  have e3 : v / 100 = v / 10 / 10 := by omega
  unfold dg3
  by_cases h1 : v ≤ 9
  · rw [if_pos h1]
    have o1 := h.ad (48 + v / 1 % 10)
    refine ⟨_, eC.of1 (rC1.of (by decide) (LE0 rfl) ?_), by rw [e1] at o1; exact o1, apg_f⟩
    refine rh1.of (rX32_putNumber_0 hm _ _ ?_)
    refine rh1.of (rX32_putNumber_2 hm _ _ _ ?_)
    refine ⟨⟨by omega, by omega⟩, fun z => by omega, fun _ => ?_⟩
    have K := m_numD hm (u := 1) hv (by decide) h (by omega) (fun r M => r = 0 ∧ M = apg 140 177 B (48 + v / 1 % 10)) (m_numE0 hm _ ⟨rfl, rfl⟩)
    rw [e1] at K
    exact K
  rw [if_neg h1]
  by_cases h2 : v ≤ 99
  · rw [if_pos h2]
    have o1 := h.ad (48 + v / 10 % 10)
    have o2 := o1.ad (48 + v / 1 % 10)
    refine ⟨_, eC.of1 (rC1.of (by decide) (LE0 rfl) ?_), by rw [e1, List.append_assoc] at o2; exact o2, apg_f.tr apg_f⟩
    refine rh1.of (rX32_putNumber_0 hm _ _ ?_)
    refine rh1.of (rX32_putNumber_2 hm _ _ _ ?_)
    refine ⟨⟨by omega, by omega⟩, fun _ => ⟨⟨by omega, by omega⟩, ?_⟩, fun z => by omega⟩
    refine rh1.of (rX32_putNumber_2 hm _ _ _ ?_)
    refine ⟨⟨by omega, by omega⟩, fun z => by omega, fun _ => ?_⟩
    have K := m_numD hm (u := 10) hv (by decide) h (by omega) (fun r M => r = 0 ∧ M = apg 140 177 (apg 140 177 B (48 + v / 10 % 10)) (48 + v / 1 % 10)) (m_numD hm (u := 1) hv (by decide) o1 (by rw [l1]; omega) _ (m_numE0 hm _ ⟨rfl, rfl⟩))
    rw [e1] at K
    exact K
  · rw [if_neg h2]
    have o1 := h.ad (48 + v / 100 % 10)
    have o2 := o1.ad (48 + v / 10 % 10)
    have o3 := o2.ad (48 + v / 1 % 10)
    refine ⟨_, eC.of1 (rC1.of (by decide) (LE0 rfl) ?_), by rw [e1, e3, List.append_assoc, List.append_assoc] at o3; exact o3, (apg_f.tr apg_f).tr apg_f⟩
    refine rh1.of (rX32_putNumber_0 hm _ _ ?_)
    refine rh1.of (rX32_putNumber_2 hm _ _ _ ?_)
    refine ⟨⟨by omega, by omega⟩, fun _ => ⟨⟨by omega, by omega⟩, ?_⟩, fun z => by omega⟩
    refine rh1.of (rX32_putNumber_2 hm _ _ _ ?_)
    refine ⟨⟨by omega, by omega⟩, fun _ => ⟨⟨by omega, by omega⟩, ?_⟩, fun z => by omega⟩
    refine rh1.of (rX32_putNumber_2 hm _ _ _ ?_)
    refine ⟨⟨by omega, by omega⟩, fun z => by omega, fun _ => ?_⟩
    have K := m_numD hm (u := 100) hv (by decide) h (by omega) (fun r M => r = 0 ∧ M = apg 140 177 (apg 140 177 (apg 140 177 B (48 + v / 100 % 10)) (48 + v / 10 % 10)) (48 + v / 1 % 10)) (m_numD hm (u := 10) hv (by decide) o1 (by rw [l1]; omega) _ (m_numD hm (u := 1) hv (by decide) o2 (by rw [l2]; omega) _ (m_numE0 hm _ ⟨rfl, rfl⟩)))
    rw [e1, e3] at K
    exact K
end TxtA
