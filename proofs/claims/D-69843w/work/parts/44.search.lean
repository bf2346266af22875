/-! ===== LAYER 2: Page.search, findPieces ===== -/
section Search
variable {wh wm : rhW}
/-- what a searched page of the house knows: lab are the labels of its black pixels -/
def SrL (M : rhM) (x : Int) (lab : Int → Int) (cnt : Int) : Prop := Lb (M x 1) (M x 1 * M x 2) (hcol M x 1) True lab cnt ∧ cnt ≤ M x 1 * M x 2 ∧ M x 6 = min300 cnt ∧ (∀ k, 0 ≤ k ∧ k < M x 1 * M x 2 → M (x + 2) k = if lab k < M x 6 then lab k else -1) ∧
  ∀ i, 0 ≤ i → i < M x 6 → M (x + 4) i = nct lab i (M x 1 * M x 2).toNat ∧ Pq (M x 1) (M x 1 * M x 2) lab i (M (x + 3) i) (M (x + 5) i) (M (x + 6) i) (M (x + 7) i) (M (x + 8) i)
def Srch (M : rhM) (x : Int) : Prop := ∃ lab cnt, SrL M x lab cnt
theorem min300_b {c : Int} (h : 0 ≤ c) : 0 ≤ min300 c ∧ min300 c ≤ 300 ∧ min300 c ≤ c := by
  unfold min300; split <;> omega
theorem c_search (hh : rh_hs wh) {x W H : Int} (hx : rh_bl wh 0 x 0) (hx2 : 15 ≤ x) (M : rhM) (hW : M x 1 = W) (hH : M x 2 = H) (hW0 : 0 ≤ W) (hWb : W ≤ 128) (hHb : H ≤ 96) (hN0 : 0 ≤ W * H) (hN : W * H ≤ 6144) (hs : M x 4 ≠ 0 → Srch M x) :
    rC1 wh YX29_search 3 [(2, x), (2, 10)] M (fun r M' => r = 0 ∧ frx (fun a j => (a = 10 ∧ j = 4) ∨ a = 11 ∨ a = 12 ∨ a = 13 ∨ a = 14 ∨ (a = x ∧ (j = 4 ∨ j = 6)) ∨ (x + 2 ≤ a ∧ a ≤ x + 8)) M M' ∧ M' x 4 ≠ 0 ∧ Srch M' x) := by
  refine rC1.of (by decide) (LE0 rfl) ?_
  refine rh1.of (rX29_search_0 hh _ _ hx ?_)
  refine ⟨fun c => ⟨rfl, frx.rf, c, hs c⟩, fun c => ⟨⟨by omega, by omega⟩, ?_⟩⟩
  have u1 : rh_set M x 4 1 x 1 = W := by rw [rh_set_j (by decide), hW]
  have u2 : rh_set M x 4 1 x 2 = H := by rw [rh_set_j (by decide), hH]
  obtain ⟨r, M1, E1, -, f1, L1, L2, L3⟩ := c_find hh (b := 1) (nb := 8) hx.page5 (fun a a0 a1 => ⟨(by omega), (by omega)⟩) (rh_set M x 4 1) u1 u2 hW0 hWb hHb hN0 hN (.inr rfl)
  refine rh1.s (vX29_search_18 hh E1 (LE0 rfl)) ?_
  have hcl : hcol (rh_set M x 4 1) x 1 = hcol M x 1 := by unfold hcol; rw [rh_set_n (by omega)]
  rw [hcl] at L1
  have L1 := L1.eight (E' := True) (by simp)
  have f1' : frx (fun a j => (a = 10 ∧ j = 4) ∨ a = 11 ∨ a = 12 ∨ a = 13 ∨ a = 14 ∨ (a = x ∧ (j = 4 ∨ j = 6)) ∨ (x + 2 ≤ a ∧ a ≤ x + 8)) M M1 := (frx.rf.st (by omega)).tr (f1.w (fun a j h => by omega))
  have q4 : M1 x 4 = 1 := by rw [f1 x 4 (by omega), rh_set_s]
  refine rh1.of (rX29_search_21 hh _ _ hx ?_)
  intro n en
  have hc0 := L1.2.2.2.2.2
  have en2 : n = min300 (M1 10 4) := by rw [en, rh_ifd]; rfl
  have nb := min300_b hc0
  rw [← en2] at nb
  have key : ∀ (v : Nat) (i : Int) (M' : rhM), (n - i).toNat = v → 0 ≤ i → i ≤ n → frx (fun a j => (a = x ∧ j = 6) ∨ a = x + 3 ∨ a = x + 4) M1 M' → M' x 6 = n → (∀ j, 0 ≤ j → j < i → M' (x + 3) j = -1 ∧ M' (x + 4) j = M1 12 j) →
      rh1 wh YX29_search 3 37 [(0, 2, x), (1, 2, 10), (2, 0, i)] [] M' (fun r M' => r = 0 ∧ frx (fun a j => (a = 10 ∧ j = 4) ∨ a = 11 ∨ a = 12 ∨ a = 13 ∨ a = 14 ∨ (a = x ∧ (j = 4 ∨ j = 6)) ∨ (x + 2 ≤ a ∧ a ≤ x + 8)) M M' ∧ M' x 4 ≠ 0 ∧ Srch M' x) := by
    intro v
    induction v using Nat.strongRecOn with
    | ind v ih =>
      intro i M' hv i0 i1 f h6 hj
      refine rh1.of (rX29_search_37 hh _ _ _ hx ?_)
      rw [h6, rh_set_a (by omega), f 12 i (by omega)]
      refine ⟨fun c => ⟨⟨by omega, by omega⟩, ⟨by omega, by omega⟩, fun a ea => ⟨⟨by omega, by omega⟩, ⟨by omega, by omega⟩, ?_⟩⟩, fun c => ?_⟩
      · refine ih _ (by omega) (i + 1) _ rfl (by omega) (by omega) ((f.st (.inr (.inl rfl))).st (.inr (.inr rfl))) (by rw [rh_set_a (by omega), rh_set_a (by omega), h6]) (fun j j0 j1 => ?_)
        by_cases q : j = i
        · rw [q, rh_set_a (by omega), rh_set_s, rh_set_s]; exact ⟨rfl, ea⟩
        · rw [rh_set_j q, rh_set_j q, rh_set_j q, rh_set_j q]; exact hj j j0 (by omega)
      · have hi : i = n := (by omega)
        subst hi
        have key2 : ∀ (v : Nat) (k : Int) (M2 : rhM), (W * H - k).toNat = v → 0 ≤ k → k ≤ W * H → frx (fun a j => (a = x ∧ j = 6) ∨ (x + 2 ≤ a ∧ a ≤ x + 8)) M1 M2 → M2 x 6 = i → (∀ j, 0 ≤ j → j < k → M2 (x + 2) j = if M1 11 j < i then M1 11 j else -1) → (∀ j, 0 ≤ j → j < i → M2 (x + 4) j = M1 12 j ∧ ((M2 (x + 3) j = -1 ∧ ∀ z, 0 ≤ z ∧ z < k → M1 11 z ≠ j) ∨ (M2 (x + 3) j ≠ -1 ∧ Pq W k (M1 11) j (M2 (x + 3) j) (M2 (x + 5) j) (M2 (x + 6) j) (M2 (x + 7) j) (M2 (x + 8) j)))) →
            rh1 wh YX29_search 3 72 [(0, 2, x), (1, 2, 10), (2, 0, k)] [] M2 (fun r M' => r = 0 ∧ frx (fun a j => (a = 10 ∧ j = 4) ∨ a = 11 ∨ a = 12 ∨ a = 13 ∨ a = 14 ∨ (a = x ∧ (j = 4 ∨ j = 6)) ∨ (x + 2 ≤ a ∧ a ≤ x + 8)) M M' ∧ M' x 4 ≠ 0 ∧ Srch M' x) := by
          intro v
          induction v using Nat.strongRecOn with
          | ind v ih2 =>
            intro k M2 hv k0 k1 f2 h26 hp hq
            have w1 : M2 x 1 = W := by rw [f2 x 1 (by omega), f1 x 1 (by omega), u1]
            have w2 : M2 x 2 = H := by rw [f2 x 2 (by omega), f1 x 2 (by omega), u2]
            have w11 : M2 11 = M1 11 := f2.cell (fun j => (by omega))
            refine rh1.of (rX29_search_72 hh _ _ _ hx ?_)
            rw [w1, w2, h26, w11]
            refine ⟨⟨by omega, by omega⟩, fun c => ⟨⟨by omega, by omega⟩, fun _ => ⟨by omega, by omega⟩, fun g eg => ⟨⟨by omega, by omega⟩, fun z => ?_, fun z => ⟨⟨by omega, by omega⟩, ?_⟩⟩⟩, fun c => ⟨rfl, ?_, ?_, M1 11, M1 10 4, ?_⟩⟩
            · have hW1 := wpos hW0 k0 c
              have hg : g = M1 11 k ∧ M1 11 k < i := by
                rw [eg]
                by_cases q : M1 11 k < i
                · rw [rh_if_t q]; exact ⟨rfl, q⟩
                · rw [eg, rh_if_f q] at z; exact absurd rfl z
              have hl1 := (L1.1 k ⟨by omega, by omega⟩).2
              obtain ⟨r, M3, E3, -, f3, b8, b1, b2⟩ := c_widen hh (i := g) (k := k) hx (rh_set M2 (x + 2) k g) k0 (by omega) (by rw [rh_set_a (by omega), w1]; exact hW1) ⟨by omega, by omega⟩
              have s2 : ∀ a j : Int, a ≠ x + 2 → rh_set M2 (x + 2) k g a j = M2 a j := fun a j h => rh_set_a h
              rw [s2 x 1 (by omega), w1, s2 (x + 3) g (by omega)] at b1
              rw [s2 x 1 (by omega), w1, s2 (x + 3) g (by omega), s2 (x + 5) g (by omega), s2 (x + 6) g (by omega), s2 (x + 7) g (by omega)] at b2
              rw [s2 x 1 (by omega), w1] at b8
              refine rh1.s (vX29_search_119 hx E3 (LE0 rfl)) ?_
              refine rh1.of (rX29_search_122 hh _ _ _ hx ?_)
              refine ⟨⟨by omega, by omega⟩, ih2 _ (by omega) (k + 1) _ rfl (by omega) (by omega) ((f2.st (by omega)).tr (f3.w (fun a j h => by omega))) (by rw [f3 x 6 (by omega), rh_set_a (by omega), h26]) (fun j j0 j1 => ?_) (fun j j0 j1 => ?_)⟩
              · rw [f3 (x + 2) j (by omega)]
                by_cases q : j = k
                · rw [q, rh_set_s, hg.1, if_pos hg.2]
                · rw [rh_set_j q]; exact hp j j0 (by omega)
              · obtain ⟨q1, q2⟩ := hq j j0 j1
                refine ⟨by rw [f3 (x + 4) j (by omega), rh_set_a (by omega), q1], ?_⟩
                by_cases q : j = g
                · subst q
                  refine .inr ?_
                  rcases q2 with ⟨q3, q4⟩ | ⟨q3, q4⟩
                  · obtain ⟨b3, b4, b5, b6⟩ := b1 q3
                    rw [b3, b4, b5, b6, b8]
                    exact ⟨(by omega), Pq.first k0 q4 hg.1.symm⟩
                  · obtain ⟨b3, b4, b5, b6⟩ := b2 q3
                    rw [b3, b4, b8]
                    exact ⟨q3, q4.next hW1 hg.1.symm b5 b6⟩
                · rw [f3 (x + 3) j (by omega), f3 (x + 5) j (by omega), f3 (x + 6) j (by omega), f3 (x + 7) j (by omega), f3 (x + 8) j (by omega), rh_set_a (by omega), rh_set_a (by omega), rh_set_a (by omega), rh_set_a (by omega), rh_set_a (by omega)]
                  rcases q2 with ⟨q3, q4⟩ | ⟨q3, q4⟩
                  · refine .inl ⟨q3, fun y hy => ?_⟩
                    by_cases q5 : y = k
                    · rw [q5, ← hg.1]; exact fun h => q h.symm
                    · exact q4 y ⟨by omega, by omega⟩
                  · exact .inr ⟨q3, q4.skip (by rw [← hg.1]; exact fun h => q h.symm)⟩
            · have hg : g = -1 := Classical.not_not.mp z
              have hl1 := (L1.1 k ⟨by omega, by omega⟩).2
              have hlk : M1 11 k = -1 ∨ i ≤ M1 11 k := by
                by_cases q : M1 11 k < i
                · rw [rh_if_t q] at eg; omega
                · omega
              refine ih2 _ (by omega) (k + 1) _ rfl (by omega) (by omega) (f2.st (by omega)) (by rw [rh_set_a (by omega), h26]) (fun j j0 j1 => ?_) (fun j j0 j1 => ?_)
              · by_cases q : j = k
                · rw [q, rh_set_s, eg, rh_ifd]
                · rw [rh_set_j q]; exact hp j j0 (by omega)
              · obtain ⟨q1, q2⟩ := hq j j0 j1
                rw [rh_set_a (by omega), rh_set_a (by omega), rh_set_a (by omega), rh_set_a (by omega), rh_set_a (by omega), rh_set_a (by omega)]
                refine ⟨q1, ?_⟩
                rcases q2 with ⟨q3, q4⟩ | ⟨q3, q4⟩
                · refine .inl ⟨q3, fun y hy => ?_⟩
                  by_cases q5 : y = k
                  · rw [q5]; omega
                  · exact q4 y ⟨by omega, by omega⟩
                · exact .inr ⟨q3, q4.skip (by omega)⟩
            · exact f1'.tr (f2.w (fun a j h => by omega))
            · rw [f2 x 4 (by omega), q4]; decide
            · have hk : k = W * H := (by omega)
              subst hk
              have hcl2 : hcol M2 x 1 = hcol M x 1 := by
                unfold hcol
                rw [show M2 (x + 1) = M (x + 1) from (f1'.tr (f2.w (fun a j h => by omega))).cell (fun j => by omega)]
              unfold SrL
              rw [w1, w2, h26, hcl2]
              refine ⟨L1, L2, en2, fun j hj => hp j hj.1 hj.2, fun j j0 j1 => ?_⟩
              obtain ⟨q1, q2⟩ := hq j j0 j1
              refine ⟨by rw [q1]; exact (L3 j j0 (by omega)).1, ?_⟩
              rcases q2 with ⟨q3, q4⟩ | ⟨q3, q4⟩
              · obtain ⟨g, g0, g1⟩ := L1.2.2.2.2.1 j j0 (by omega)
                exact absurd g1 (q4 g g0)
              · exact q4
        exact key2 _ 0 M' rfl (by omega) hN0 (f.w (fun a j h => by omega)) h6 (fun j j0 j1 => by omega) (fun j j0 j1 => ⟨(hj j j0 j1).2, .inl ⟨(hj j j0 j1).1, fun z hz => by omega⟩⟩)
  exact key _ 0 _ rfl (by omega) nb.1 (frx.rf.st (.inl ⟨rfl, rfl⟩)) (rh_set_s _ _ _ _) (fun j j0 j1 => by omega)
end Search
