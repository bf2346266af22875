/-! ===== LAYER 2: tape and output ===== -/
section Tape
variable {wh wm : rhW}
theorem rh_ic.eC {w : rhW} {Y : rhY} {h : Nat} {ts : List Nat} {kbs : List (rhX × Nat × rhX)} {ob : List rhX} {res mem : rhX} (H : rh_ic w Y h ts kbs ob res mem) (xs : List Int) (M : rhM) (hx : xs.length = ts.length) (hk : rh_KB (rh_num 0 xs, [(0, M)], w) kbs) (ho : rh_hold (rh_num 0 xs, [(0, M)], w) ob) : _root_.Jvm.Pilot.CReadingHouseLaw_law_r9657_0eb00d.eC w Y h (ts.zip xs) M (rh_den (rh_num 0 xs, [(0, M)], w) res).1 (rh_den (rh_num 0 xs, [(0, M)], w) mem).2.1 :=
  fun n => H n xs M hx hk ho _ ⟨rfl, rfl⟩
/-- bytes of the house (cell b), numbers of the model (cell c), n of them -/
def Rby (Mh Mm : rhM) (b c n : Int) : Prop := ∀ k : Int, 0 ≤ k → k < n → rh_and (Mh b k) 255 = Mm c k ∧ (0 ≤ Mm c k ∧ Mm c k ≤ 255) ∧ -128 ≤ Mh b k ∧ Mh b k ≤ 127
def Rtp (Mh Mm : rhM) : Prop := Mh 1 2 = Mm 0 2 ∧ 0 ≤ Mm 0 2 ∧ Mm 0 2 ≤ 4096 ∧ Rby Mh Mm 2 1 (Mm 0 2)
def Rou (Mh Mm : rhM) : Prop := Mh 4 1 = Mm 0 4 ∧ 0 ≤ Mm 0 4 ∧ Mm 0 4 ≤ 6000 ∧ Rby Mh Mm 5 2 (Mm 0 4)
theorem op_byteOf (hh : rh_hs wh) (hm : rh_ms wm) {Mh Mm : rhM} (R : Rou Mh Mm) (x1 : Int) : rC2 wh YX1_byteOf 1 [(2, 0), (0, x1)] Mh wm YX32_byteOf 1 [(2, 0), (0, x1)] Mm (fun r M' r2 M2' => r = r2 ∧ M' = Mh ∧ M2' = rh_set Mm 0 0 0) := by
  obtain ⟨a1, a2, a3, a4⟩ := R
  have e4 : rh_set Mm 0 0 0 0 4 = Mm 0 4 := rh_set_j (by decide)
  have e2 : ∀ k, rh_set Mm 0 0 0 2 k = Mm 2 k := fun k => rh_set_a (by decide)
  refine ⟨_, _, _, _, (icX1_byteOf hh).eC [0, x1] Mh rfl (fun q hq => by cases hq) ?_, (icX32_byteOf hm).eC [0, x1] Mm rfl (fun q hq => by cases hq) ?_, ?_, rfl, rfl⟩
  · have h1 : rI (Mh 4 1 - 1) := ⟨by omega, by omega⟩
    have h2 : ((0 ≤ x1) ∧ (x1 ≤ Mh 4 1 - 1)) → ((0 ≤ x1) ∧ (x1 < 6000)) := by omega
    intro o ho
    simp only [ioX1_byteOf, List.mem_cons, List.not_mem_nil, or_false] at ho
    rcases ho with rfl | rfl | rfl
    · exact (rfl : (0 : Int) = 0)
    · exact h1
    · exact h2
  · have h1 : rI (rh_set Mm 0 0 0 0 4 - 1) := by rw [e4]; exact ⟨by omega, by omega⟩
    have h2 : ((0 ≤ x1) ∧ (x1 ≤ rh_set Mm 0 0 0 0 4 - 1)) → ((0 ≤ x1) ∧ (x1 < 6000)) := by rw [e4]; omega
    intro o ho
    simp only [ioX32_byteOf, List.mem_cons, List.not_mem_nil, or_false] at ho
    rcases ho with rfl | rfl | rfl
    · exact (rfl : (0 : Int) = 0)
    · exact h1
    · exact h2
  · show rh_if ((0 ≤ x1) ∧ (x1 ≤ Mh 4 1 - 1)) (rh_and (Mh 5 x1) 255) (-1) = rh_if ((0 ≤ x1) ∧ (x1 ≤ rh_set Mm 0 0 0 0 4 - 1)) (rh_set Mm 0 0 0 2 x1) (-1)
    rw [e4, e2, a1]
    by_cases z : (0 ≤ x1) ∧ (x1 ≤ Mm 0 4 - 1)
    · rw [rh_if_t z, rh_if_t z, (a4 x1 z.1 (by omega)).1]
    · rw [rh_if_f z, rh_if_f z]
theorem hs_by (hh : rh_hs wh) : rh_ar wh 2 .byte 4096 ∧ rh_ar wh 5 .byte 6000 := ⟨rh_hs_ar hh 2 (by decide) rfl, rh_hs_ar hh 5 (by decide) rfl⟩
/-- pass -/
def m_pass (Mm : rhM) : rhM := rh_set (rh_cpy (rh_set Mm 0 0 0) 2 0 1 (Mm 0 2) (Mm 0 4)) 0 2 (Mm 0 2 + Mm 0 4)
theorem op_pass (hh : rh_hs wh) (hm : rh_ms wm) {Mh Mm : rhM} (T : Rtp Mh Mm) (R : Rou Mh Mm) : rC2 wh YX1_pass 1 [(2, 0)] Mh wm YX32_pass 0 [(2, 0)] Mm (fun r M' r2 M2' => r = r2 ∧ ((M' = Mh ∧ M2' = rh_set Mm 0 0 0) ∨ (Rtp M' M2' ∧ frm (fun a => a = 1 ∨ a = 2) Mh M' ∧ (∀ j, j ≠ 2 → M' 1 j = Mh 1 j) ∧ frm (fun a => a = 0 ∨ a = 1) Mm M2' ∧ ∀ j, j ≠ 2 → M2' 0 j = rh_set Mm 0 0 0 0 j))) := by
  obtain ⟨a1, a2, a3, a4⟩ := R
  obtain ⟨t1, t2, t3, t4⟩ := T
  have e4 : rh_set Mm 0 0 0 0 4 = Mm 0 4 := rh_set_j (by decide)
  have e2 : rh_set Mm 0 0 0 0 2 = Mm 0 2 := rh_set_j (by decide)
  refine rC2.of (by decide) (LE0 rfl) (by decide) (LE0 rfl) ?_
  refine rh2.l (rX1_pass_0 hh _ ⟨⟨by omega, by omega⟩, fun c => ?_, fun c => ?_⟩)
  · refine rh1.of (rX32_pass_0 hm _ ?_)
    rw [e4, e2]
    exact ⟨⟨by omega, by omega⟩, fun d => ⟨rfl, .inl ⟨rfl, rfl⟩⟩, fun d => absurd (show 4096 < Mm 0 2 + Mm 0 4 by omega) d⟩
  · refine rh2.r (rX32_pass_0 hm _ ?_)
    rw [e4, e2]
    refine ⟨⟨by omega, by omega⟩, fun d => absurd d (by omega), fun d => ?_⟩
    refine rh2.sl (vX1_pass_53 (ty := .byte) (tt := 1) (n0 := 6000) (n1 := 4096) rfl rfl rfl (hs_by hh).2 (hs_by hh).1 rfl rfl rfl (by omega) (by omega) (by omega) (by omega) (by omega) (by decide) (by decide) (LE0 rfl)) ?_
    have f12 : rh_cpy Mh 5 0 2 (Mh 1 2) (Mh 4 1) 1 2 = Mh 1 2 := rh_cpy_a (by decide)
    have f41 : rh_cpy Mh 5 0 2 (Mh 1 2) (Mh 4 1) 4 1 = Mh 4 1 := rh_cpy_a (by decide)
    have key : ∀ (v : Nat) (k : Int), (Mm 0 4 - k).toNat = v → 0 ≤ k → k ≤ Mm 0 4 → rh1 wm YX32_pass 0 25 [(0, 2, 0), (1, 0, k)] [] (rh_set (rh_cpy (rh_set Mm 0 0 0) 2 0 1 (Mm 0 2) k) 0 2 (Mm 0 2 + k)) (fun r M' => r = Mm 0 2 + Mm 0 4 ∧ M' = m_pass Mm) := by
      intro v
      induction v using Nat.strongRecOn with
      | ind v ih =>
        intro k hv k0 k1
        have g4 : rh_set (rh_cpy (rh_set Mm 0 0 0) 2 0 1 (Mm 0 2) k) 0 2 (Mm 0 2 + k) 0 4 = Mm 0 4 := by rw [rh_set_j (by decide), rh_cpy_a (by decide), e4]
        have g2 : rh_set (rh_cpy (rh_set Mm 0 0 0) 2 0 1 (Mm 0 2) k) 0 2 (Mm 0 2 + k) 0 2 = Mm 0 2 + k := rh_set_s _ _ _ _
        have gk : rh_set (rh_cpy (rh_set Mm 0 0 0) 2 0 1 (Mm 0 2) k) 0 2 (Mm 0 2 + k) 2 k = rh_set Mm 0 0 0 2 (0 + k) := by rw [rh_set_a (by decide), rh_cpy_a (by decide), Int.zero_add]
        refine rh1.of (rX32_pass_25 hm _ _ ?_)
        rw [g4, g2, gk]
        refine ⟨fun c => ⟨⟨by omega, by omega⟩, ⟨by omega, by omega⟩, fun M300 eM => ?_⟩, fun c => ?_⟩
        · have h2 : M300 0 2 = Mm 0 2 + k := by rw [eM, rh_set_a (by decide), g2]
          rw [h2]
          refine ⟨⟨by omega, by omega⟩, ⟨by omega, by omega⟩, ?_⟩
          have eq : rh_set M300 0 2 (Mm 0 2 + k + 1) = rh_set (rh_cpy (rh_set Mm 0 0 0) 2 0 1 (Mm 0 2) (k + 1)) 0 2 (Mm 0 2 + (k + 1)) := by
            rw [← rh_cpy_s k0, eM]
            funext a j
            simp only [rh_sets]
            by_cases ha : a = 0
            · by_cases hj : j = 2
              · simp [ha, hj]; omega
              · simp [ha, hj]
            · simp [ha]
          rw [eq]
          exact ih _ (by omega) (k + 1) rfl (by omega) (by omega)
        · have : k = Mm 0 4 := by omega
          subst this
          exact ⟨rfl, rfl⟩
    have k0 := key _ 0 rfl (by omega) a2
    rw [rh_cpy0, Int.add_zero] at k0
    have e0 : rh_set (rh_set Mm 0 0 0) 0 2 (Mm 0 2) = rh_set Mm 0 0 0 := by
      funext a j
      simp only [rh_sets]
      by_cases ha : a = 0
      · by_cases hj : j = 2
        · simp [ha, hj]
        · simp [ha, hj]
      · simp [ha]
    rw [e0] at k0
    refine rh2.l (rX1_pass_56 hh _ ?_)
    rw [f12, f41]
    intro x300 e300
    refine ⟨⟨by omega, by omega⟩, ?_⟩
    obtain ⟨r2, M2, E2, rfl, rfl⟩ := k0
    refine ⟨_, _, E2, ?_, .inr ⟨⟨?_, ?_, ?_, ?_⟩, ?_, fun j hj => ?_, ?_, fun j hj => ?_⟩⟩
    · rw [rh_set_s]; omega
    · rw [rh_set_s]; show x300 = m_pass Mm 0 2; unfold m_pass; rw [rh_set_s]; omega
    · show 0 ≤ m_pass Mm 0 2; unfold m_pass; rw [rh_set_s]; omega
    · show m_pass Mm 0 2 ≤ 4096; unfold m_pass; rw [rh_set_s]; omega
    · intro k h0 h1
      have h1' : k < Mm 0 2 + Mm 0 4 := by
        have : m_pass Mm 0 2 = Mm 0 2 + Mm 0 4 := rh_set_s _ _ _ _
        omega
      have hM : m_pass Mm 1 k = if Mm 0 2 ≤ k ∧ k < Mm 0 2 + Mm 0 4 then Mm 2 (0 + (k - Mm 0 2)) else Mm 1 k := by
        unfold m_pass rh_cpy
        rw [rh_set_a (by decide), if_pos rfl, rh_set_a (by decide), rh_set_a (by decide)]
      have hH : rh_set (rh_cpy Mh 5 0 2 (Mh 1 2) (Mh 4 1)) 1 2 x300 2 k = if Mh 1 2 ≤ k ∧ k < Mh 1 2 + Mh 4 1 then Mh 5 (0 + (k - Mh 1 2)) else Mh 2 k := by
        rw [rh_set_a (by decide)]
        unfold rh_cpy
        rw [if_pos rfl]
      rw [hM, hH, t1, a1]
      by_cases z : Mm 0 2 ≤ k ∧ k < Mm 0 2 + Mm 0 4
      · rw [if_pos z, if_pos z]; exact a4 _ (by omega) (by omega)
      · rw [if_neg z, if_neg z]; exact t4 k h0 (by omega)
    · intro a ha
      funext j
      rw [rh_set_a (fun h => ha (.inl h)), rh_cpy_a (fun h => ha (.inr h))]
    · rw [rh_set_j hj, rh_cpy_a (by decide)]
    · intro a ha
      funext j
      unfold m_pass
      rw [rh_set_a (fun h => ha (.inl h)), rh_cpy_a (fun h => ha (.inr h)), rh_set_a (fun h => ha (.inl h))]
    · unfold m_pass
      rw [rh_set_j hj, rh_cpy_a (by decide)]
end Tape
