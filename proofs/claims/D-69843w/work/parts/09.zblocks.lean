/-! ===== blocks of cells that are there more than once ===== -/
section RhBlocks
/-- a cell of a block: possible classes, or an array (type, a, b: length a * m + b); how many fields are told; fixed references -/
abbrev rhT : Type := (List Nat ⊕ (FieldType × Nat × Nat)) × Nat × List (Nat × Nat)
def rh_tp0 : List rhT := [(.inl [26], 1000, [(0, 1), (5, 2), (7, 3), (8, 4), (9, 5), (10, 6), (11, 7), (12, 8), (13, 9), (14, 37), (15, 38)]), (.inr (.byte, 0, 6144), 1000, []), (.inr (.int, 0, 6144), 1000, []), (.inr (.int, 0, 300), 1000, []), (.inr (.int, 0, 300), 1000, []), (.inr (.int, 0, 300), 1000, []), (.inr (.int, 0, 300), 1000, []), (.inr (.int, 0, 300), 1000, []), (.inr (.int, 0, 300), 1000, []), (.inl [27], 1000, [(2, 10), (3, 11), (4, 12), (5, 13), (6, 14), (7, 15), (8, 16), (9, 17), (11, 18), (12, 19), (13, 20), (14, 21), (15, 22), (16, 23), (17, 24), (19, 25), (20, 26), (21, 27), (22, 28), (23, 29), (24, 30), (25, 31), (26, 32), (27, 33), (28, 34), (29, 35), (30, 36)]), (.inr (.int, 0, 20), 1000, []), (.inr (.int, 0, 20), 1000, []), (.inr (.int, 0, 20), 1000, []), (.inr (.int, 0, 20), 1000, []), (.inr (.int, 0, 20), 1000, []), (.inr (.int, 0, 20), 1000, []), (.inr (.int, 0, 20), 1000, []), (.inr (.boolean, 0, 20), 1000, []), (.inr (.int, 0, 60), 1000, []), (.inr (.int, 0, 60), 1000, []), (.inr (.int, 0, 60), 1000, []), (.inr (.int, 0, 60), 1000, []), (.inr (.int, 0, 61), 1000, []), (.inr (.int, 0, 60), 1000, []), (.inr (.int, 0, 300), 1000, []), (.inr (.int, 0, 80), 1000, []), (.inr (.int, 0, 80), 1000, []), (.inr (.int, 0, 80), 1000, []), (.inr (.int, 0, 80), 1000, []), (.inr (.int, 0, 80), 1000, []), (.inr (.int, 0, 80), 1000, []), (.inr (.int, 0, 80), 1000, []), (.inr (.int, 0, 300), 1000, []), (.inr (.int, 0, 300), 1000, []), (.inr (.int, 0, 300), 1000, []), (.inr (.int, 0, 300), 1000, []), (.inr (.int, 0, 300), 1000, []), (.inr (.int, 0, 250), 1000, []), (.inr (.int, 0, 1000), 1000, [])]
def rh_tp1 : List rhT := [(.inl [27], 1000, [(2, 1), (3, 2), (4, 3), (5, 4), (6, 5), (7, 6), (8, 7), (9, 8), (11, 9), (12, 10), (13, 11), (14, 12), (15, 13), (16, 14), (17, 15), (19, 16), (20, 17), (21, 18), (22, 19), (23, 20), (24, 21), (25, 22), (26, 23), (27, 24), (28, 25), (29, 26), (30, 27)]), (.inr (.int, 0, 20), 1000, []), (.inr (.int, 0, 20), 1000, []), (.inr (.int, 0, 20), 1000, []), (.inr (.int, 0, 20), 1000, []), (.inr (.int, 0, 20), 1000, []), (.inr (.int, 0, 20), 1000, []), (.inr (.int, 0, 20), 1000, []), (.inr (.boolean, 0, 20), 1000, []), (.inr (.int, 0, 60), 1000, []), (.inr (.int, 0, 60), 1000, []), (.inr (.int, 0, 60), 1000, []), (.inr (.int, 0, 60), 1000, []), (.inr (.int, 0, 61), 1000, []), (.inr (.int, 0, 60), 1000, []), (.inr (.int, 0, 300), 1000, []), (.inr (.int, 0, 80), 1000, []), (.inr (.int, 0, 80), 1000, []), (.inr (.int, 0, 80), 1000, []), (.inr (.int, 0, 80), 1000, []), (.inr (.int, 0, 80), 1000, []), (.inr (.int, 0, 80), 1000, []), (.inr (.int, 0, 80), 1000, []), (.inr (.int, 0, 300), 1000, []), (.inr (.int, 0, 300), 1000, []), (.inr (.int, 0, 300), 1000, []), (.inr (.int, 0, 300), 1000, []), (.inr (.int, 0, 300), 1000, [])]
def rh_tp2 : List rhT := [(.inl [28], 1000, [(2, 1), (3, 2), (4, 3), (5, 6), (6, 7), (7, 8), (8, 9), (9, 10), (10, 11), (11, 12), (12, 15)]), (.inr (.int, 0, 80), 1000, []), (.inr (.int, 0, 320), 1000, []), (.inl [16], 1000, [(0, 4), (1, 5)]), (.inr (.byte, 0, 3840), 1000, []), (.inr (.byte, 0, 320), 1000, []), (.inr (.int, 0, 320), 1000, []), (.inr (.int, 0, 80), 1000, []), (.inr (.int, 0, 80), 1000, []), (.inr (.int, 0, 80), 1000, []), (.inr (.int, 0, 6720), 1000, []), (.inr (.int, 0, 80), 1000, []), (.inl [16], 1000, [(0, 13), (1, 14)]), (.inr (.byte, 0, 960), 1000, []), (.inr (.byte, 0, 80), 1000, []), (.inl [16], 1000, [(0, 16), (1, 17)]), (.inr (.byte, 0, 5760), 1000, []), (.inr (.byte, 0, 480), 1000, [])]
def rh_tp3 : List rhT := [(.inl [19], 1000, [(2, 1), (3, 4), (4, 7)]), (.inl [16], 1000, [(0, 2), (1, 3)]), (.inr (.byte, 0, 960), 1000, []), (.inr (.byte, 0, 80), 1000, []), (.inl [16], 1000, [(0, 5), (1, 6)]), (.inr (.byte, 0, 960), 1000, []), (.inr (.byte, 0, 80), 1000, []), (.inr (.int, 0, 80), 1000, [])]
def rh_tp4 : List rhT := [(.inl [16], 1000, [(0, 1), (1, 2)]), (.inr (.byte, 12, 0), 1000, []), (.inr (.byte, 1, 0), 1000, [])]
def rh_tp5 : List rhT := [(.inl [4, 26], 3, [(0, 1)]), (.inr (.byte, 0, 6144), 1000, [])]
def rh_tp (t : Nat) : List rhT := match t with
  | 0 => rh_tp0
  | 1 => rh_tp1
  | 2 => rh_tp2
  | 3 => rh_tp3
  | 4 => rh_tp4
  | 5 => rh_tp5
  | 6 => [(.inr (.int, 1, 0), 1000, [])]
  | 7 => [(.inr (.byte, 1, 0), 1000, [])]
  | 8 => [(.inr (.boolean, 1, 0), 1000, [])]
  | 9 => [(.inr (.long, 1, 0), 1000, [])]
  | _ => []
def rh_kc (w : rhW) (x m : Int) (q : List Nat ⊕ (FieldType × Nat × Nat)) : Prop := match q with
  | .inl cs => ∃ ci, ci ∈ cs ∧ rh_ob w x ci
  | .inr a => ∃ len : Nat, rh_ar w x a.1 len ∧ (len : Int) = a.2.1 * m + a.2.2 ∧ len ≤ 2147483647
def rh_ff (w : rhW) (x o : Int) (k : Nat) (l : List (Nat × Nat)) : Prop := match rh_lk l k with
  | some d => rh_fr w x k (o + d)
  | none => rh_fd w x k
/-- at o there is a block of the sort t, with the number m -/
def rh_bl (w : rhW) (t : Nat) (o m : Int) : Prop := 0 ≤ o ∧ ∀ (j : Nat) (q : rhT), (rh_tp t)[j]? = some q → rh_kc w (o + j) m q.1 ∧ ∀ k, k < q.2.1 → rh_ff w (o + j) o k q.2.2
def rh_ct (e : rhE) (q : rhT) (o m : Nat) : Bool := (match e.1, q.1 with
  | .inr ci, .inl cs => cs.contains ci
  | .inl a, .inr b => decide (a.1 = b.1) && (Nat.beq a.2 (b.2.1 * m + b.2.2) && Nat.ble a.2 2147483647)
  | _, _ => false) && (decide (e.2 = q.2.2.map fun p => (p.1, o + p.2)) || (Nat.ble q.2.1 10 && (List.range 10).all (fun k => decide (k < q.2.1 → rh_lk e.2 k = (rh_lk q.2.2 k).map fun d => o + d))))
def rh_btc (t o m lo hi : Nat) : Bool := Nat.ble lo o && Nat.ble (o + (rh_tp t).length) hi && (List.range (rh_tp t).length).all fun j => match rh_tb2 hi (o + j), (rh_tp t)[j]? with
  | some e, some q => rh_ct e q o m
  | _, _ => false
theorem rh_lkm (l : List (Nat × Nat)) (o k : Nat) : rh_lk (l.map fun p => (p.1, o + p.2)) k = (rh_lk l k).map fun d => o + d := by
  unfold rh_lk
  induction l with
  | nil => rfl
  | cons a l ih =>
    simp only [List.map_cons, List.find?_cons]
    cases a.1 == k
    · exact ih
    · rfl
theorem rh_ct_fx {e : rhE} {q : rhT} {o m : Nat} (h : rh_ct e q o m = true) {k : Nat} (hk : k < q.2.1) : rh_lk e.2 k = (rh_lk q.2.2 k).map fun d => o + d := by
  unfold rh_ct at h
  simp only [Bool.and_eq_true, Bool.or_eq_true] at h
  rcases h.2 with h2 | h2
  · rw [of_decide_eq_true h2, rh_lkm]
  · have h3 := Nat.le_of_ble_eq_true h2.1
    exact of_decide_eq_true (List.all_eq_true.mp h2.2 k (List.mem_range.mpr (by omega))) hk
theorem rh_bl.of {w : rhW} {t o m lo hi : Nat} (h : rh_sd lo hi w) (hc : rh_btc t o m lo hi = true) : rh_bl w t o m := by
  unfold rh_btc at hc
  simp only [Bool.and_eq_true] at hc
  obtain ⟨⟨h1, h2⟩, h3⟩ := hc
  have h1 := Nat.le_of_ble_eq_true h1
  have h2 := Nat.le_of_ble_eq_true h2
  refine ⟨by omega, fun j q hq => ?_⟩
  have hj : j < (rh_tp t).length := (List.getElem?_eq_some_iff.mp hq).1
  have h4 := List.all_eq_true.mp h3 j (List.mem_range.mpr hj)
  rw [hq] at h4
  cases ht : rh_tb2 hi (o + j) with
  | none => rw [ht] at h4; cases h4
  | some e =>
    rw [ht] at h4
    simp only at h4
    obtain ⟨a1, a2, a3⟩ := h (o + j) e (by omega) (by omega) ht
    have hx : ((o : Int) + (j : Int)) = ((o + j : Nat) : Int) := by omega
    have hx2 : ((o : Int) + (j : Int)).toNat = o + j := by omega
    refine ⟨?_, fun k hk => ?_⟩
    · have h5 := h4
      unfold rh_ct at h5
      simp only [Bool.and_eq_true] at h5
      have h6 := h5.1
      unfold rh_kc
      cases h7 : q.1 with
      | inl cs =>
        rw [h7] at h6
        cases h8 : e.1 with
        | inl a => rw [h8] at h6; cases h6
        | inr ci =>
          rw [h8] at h6 a2
          simp only at h6
          refine ⟨ci, by simpa using h6, by omega, ?_, ?_⟩
          · rw [hx2]; exact a1
          · rw [hx2]; exact a2
      | inr b =>
        rw [h7] at h6
        cases h8 : e.1 with
        | inr ci => rw [h8] at h6; cases h6
        | inl a =>
          rw [h8] at h6 a2
          simp only [Bool.and_eq_true, decide_eq_true_eq] at h6
          have e1 := Nat.eq_of_beq_eq_true h6.2.1
          have e2 := Nat.le_of_ble_eq_true h6.2.2
          refine ⟨a.2, ⟨by omega, ?_, ?_⟩, by rw [e1]; simp, e2⟩
          · rw [hx2]; exact a1
          · rw [hx2, a2, ← h6.1]
    · have h5 := rh_ct_fx h4 hk
      unfold rh_ff
      cases h6 : rh_lk q.2.2 k with
      | none =>
        rw [h6] at h5
        show rw_rf w _ k = none
        rw [hx2, a3 k, h5]
        rfl
      | some d =>
        rw [h6] at h5
        refine ⟨by omega, ?_⟩
        rw [hx2, a3 k, h5]
        simp
        omega
/-- the pages, the readings -/
theorem hs_pg {w : rhW} (h : rh_hs w) {i : Int} (h0 : 0 ≤ i) (h1 : i < 8) : rh_bl w 0 (251 + 39 * i) 0 := by
  have hc : (List.range 8).all (fun i => rh_btc 0 (251 + 39 * i) 0 0 635) = true := by decide +kernel
  have := List.all_eq_true.mp hc i.toNat (by rw [List.mem_range]; omega)
  have h2 := rh_bl.of h this
  rw [show ((251 + 39 * i.toNat : Nat) : Int) = 251 + 39 * i by omega] at h2
  exact h2
theorem hs_rd {w : rhW} (h : rh_hs w) {i : Int} (h0 : 0 ≤ i) (h1 : i < 4) : rh_bl w 2 (563 + 18 * i) 0 := by
  have hc : (List.range 4).all (fun i => rh_btc 2 (563 + 18 * i) 0 0 635) = true := by decide +kernel
  have := List.all_eq_true.mp hc i.toNat (by rw [List.mem_range]; omega)
  have h2 := rh_bl.of h this
  rw [show ((563 + 18 * i.toNat : Nat) : Int) = 563 + 18 * i by omega] at h2
  exact h2
theorem hs_dc {w : rhW} (h : rh_hs w) {i : Int} (h0 : 0 ≤ i) (h1 : i < 12) : rh_bl w 3 (106 + 8 * i) 0 := by
  have hc : (List.range 12).all (fun i => rh_btc 3 (106 + 8 * i) 0 0 635) = true := by decide +kernel
  have := List.all_eq_true.mp hc i.toNat (by rw [List.mem_range]; omega)
  have h2 := rh_bl.of h this
  rw [show ((106 + 8 * i.toNat : Nat) : Int) = 106 + 8 * i by omega] at h2
  exact h2
theorem hs_sh {w : rhW} (h : rh_hs w) : rh_bl w 5 8 0 := rh_bl.of (o := 8) (m := 0) h (by decide +kernel)
theorem hs_pgs {w : rhW} (h : rh_hs w) {i : Int} (h0 : 0 ≤ i) (h1 : i < 8) : rh_bl w 5 (251 + 39 * i) 0 := by
  have hc : (List.range 8).all (fun i => rh_btc 5 (251 + 39 * i) 0 0 635) = true := by decide +kernel
  have := List.all_eq_true.mp hc i.toNat (by rw [List.mem_range]; omega)
  have h2 := rh_bl.of h this
  rw [show ((251 + 39 * i.toNat : Nat) : Int) = 251 + 39 * i by omega] at h2
  exact h2
theorem hs_ly {w : rhW} (h : rh_hs w) {i : Int} (h0 : 0 ≤ i) (h1 : i < 8) : rh_bl w 1 (260 + 39 * i) 0 := by
  have hc : (List.range 8).all (fun i => rh_btc 1 (260 + 39 * i) 0 0 635) = true := by decide +kernel
  have := List.all_eq_true.mp hc i.toNat (by rw [List.mem_range]; omega)
  have h2 := rh_bl.of h this
  rw [show ((260 + 39 * i.toNat : Nat) : Int) = 260 + 39 * i by omega] at h2
  exact h2
theorem hs_rw64 {w : rhW} (h : rh_hs w) : rh_bl w 4 64 150 := rh_bl.of (o := 64) (m := 150) h (by decide +kernel)
theorem hs_rw67 {w : rhW} (h : rh_hs w) : rh_bl w 4 67 1 := rh_bl.of (o := 67) (m := 1) h (by decide +kernel)
theorem hs_rw84 {w : rhW} (h : rh_hs w) : rh_bl w 4 84 7957 := rh_bl.of (o := 84) (m := 7957) h (by decide +kernel)
theorem hs_rw87 {w : rhW} (h : rh_hs w) : rh_bl w 4 87 7957 := rh_bl.of (o := 87) (m := 7957) h (by decide +kernel)
theorem hs_rw100 {w : rhW} (h : rh_hs w) : rh_bl w 4 100 12 := rh_bl.of (o := 100) (m := 12) h (by decide +kernel)
theorem hs_rw107 {w : rhW} (h : rh_hs w) : rh_bl w 4 107 80 := rh_bl.of (o := 107) (m := 80) h (by decide +kernel)
theorem hs_rw110 {w : rhW} (h : rh_hs w) : rh_bl w 4 110 80 := rh_bl.of (o := 110) (m := 80) h (by decide +kernel)
theorem hs_rw115 {w : rhW} (h : rh_hs w) : rh_bl w 4 115 80 := rh_bl.of (o := 115) (m := 80) h (by decide +kernel)
theorem hs_rw118 {w : rhW} (h : rh_hs w) : rh_bl w 4 118 80 := rh_bl.of (o := 118) (m := 80) h (by decide +kernel)
theorem hs_rw123 {w : rhW} (h : rh_hs w) : rh_bl w 4 123 80 := rh_bl.of (o := 123) (m := 80) h (by decide +kernel)
theorem hs_rw126 {w : rhW} (h : rh_hs w) : rh_bl w 4 126 80 := rh_bl.of (o := 126) (m := 80) h (by decide +kernel)
theorem hs_rw131 {w : rhW} (h : rh_hs w) : rh_bl w 4 131 80 := rh_bl.of (o := 131) (m := 80) h (by decide +kernel)
theorem hs_rw134 {w : rhW} (h : rh_hs w) : rh_bl w 4 134 80 := rh_bl.of (o := 134) (m := 80) h (by decide +kernel)
theorem hs_rw139 {w : rhW} (h : rh_hs w) : rh_bl w 4 139 80 := rh_bl.of (o := 139) (m := 80) h (by decide +kernel)
theorem hs_rw142 {w : rhW} (h : rh_hs w) : rh_bl w 4 142 80 := rh_bl.of (o := 142) (m := 80) h (by decide +kernel)
theorem hs_rw147 {w : rhW} (h : rh_hs w) : rh_bl w 4 147 80 := rh_bl.of (o := 147) (m := 80) h (by decide +kernel)
theorem hs_rw150 {w : rhW} (h : rh_hs w) : rh_bl w 4 150 80 := rh_bl.of (o := 150) (m := 80) h (by decide +kernel)
theorem hs_rw155 {w : rhW} (h : rh_hs w) : rh_bl w 4 155 80 := rh_bl.of (o := 155) (m := 80) h (by decide +kernel)
theorem hs_rw158 {w : rhW} (h : rh_hs w) : rh_bl w 4 158 80 := rh_bl.of (o := 158) (m := 80) h (by decide +kernel)
theorem hs_rw163 {w : rhW} (h : rh_hs w) : rh_bl w 4 163 80 := rh_bl.of (o := 163) (m := 80) h (by decide +kernel)
theorem hs_rw166 {w : rhW} (h : rh_hs w) : rh_bl w 4 166 80 := rh_bl.of (o := 166) (m := 80) h (by decide +kernel)
theorem hs_rw171 {w : rhW} (h : rh_hs w) : rh_bl w 4 171 80 := rh_bl.of (o := 171) (m := 80) h (by decide +kernel)
theorem hs_rw174 {w : rhW} (h : rh_hs w) : rh_bl w 4 174 80 := rh_bl.of (o := 174) (m := 80) h (by decide +kernel)
theorem hs_rw179 {w : rhW} (h : rh_hs w) : rh_bl w 4 179 80 := rh_bl.of (o := 179) (m := 80) h (by decide +kernel)
theorem hs_rw182 {w : rhW} (h : rh_hs w) : rh_bl w 4 182 80 := rh_bl.of (o := 182) (m := 80) h (by decide +kernel)
theorem hs_rw187 {w : rhW} (h : rh_hs w) : rh_bl w 4 187 80 := rh_bl.of (o := 187) (m := 80) h (by decide +kernel)
theorem hs_rw190 {w : rhW} (h : rh_hs w) : rh_bl w 4 190 80 := rh_bl.of (o := 190) (m := 80) h (by decide +kernel)
theorem hs_rw195 {w : rhW} (h : rh_hs w) : rh_bl w 4 195 80 := rh_bl.of (o := 195) (m := 80) h (by decide +kernel)
theorem hs_rw198 {w : rhW} (h : rh_hs w) : rh_bl w 4 198 80 := rh_bl.of (o := 198) (m := 80) h (by decide +kernel)
theorem hs_rw224 {w : rhW} (h : rh_hs w) : rh_bl w 4 224 24 := rh_bl.of (o := 224) (m := 24) h (by decide +kernel)
end RhBlocks
