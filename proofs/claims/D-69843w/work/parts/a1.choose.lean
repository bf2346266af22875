/-! ===== LAYER 2: candidates: the house (insert, choose) ===== -/
section Choose
variable {wh wm : rhW}
theorem c_insert (hh : rh_hs wh) {lt q m : Int} (M : rhM) (hm : M 41 17 = m) (m0 : 0 ≤ m ∧ m ≤ 3) (hl : 0 ≤ lt ∧ lt < 128) :
    rC1 wh YX17_insert 0 [(2, 41), (0, lt), (0, q)] M (fun _ M' => frx (fun c j => (c = 41 ∧ j = 17) ∨ c = 58 ∨ c = 59 ∨ c = 60) M M' ∧ M' 41 17 = (if m < 3 then m + 1 else 3) ∧ ∃ p, (0 ≤ p ∧ p ≤ m) ∧ (0 < p → ¬ (q < M 59 (p - 1))) ∧ (∀ j, p ≤ j → j < m → q < M 59 j) ∧ ∀ j, 0 ≤ j → j < 3 → j ≤ m → (j < p → M' 58 j = M 58 j ∧ M' 59 j = M 59 j ∧ M' 60 j = M 60 j) ∧ (j = p → M' 58 j = lt ∧ M' 59 j = q ∧ M' 60 j = M 62 lt) ∧ (p < j → M' 58 j = M 58 (j - 1) ∧ M' 59 j = M 59 (j - 1) ∧ M' 60 j = M 60 (j - 1))) := by
  refine rC1.of (by decide) (LE0 rfl) ?_
  generalize hPost : (fun (_ : Int) (M' : rhM) => frx (fun c j => (c = 41 ∧ j = 17) ∨ c = 58 ∨ c = 59 ∨ c = 60) M M' ∧ M' 41 17 = (if m < 3 then m + 1 else 3) ∧ ∃ p, (0 ≤ p ∧ p ≤ m) ∧ (0 < p → ¬ (q < M 59 (p - 1))) ∧ (∀ j, p ≤ j → j < m → q < M 59 j) ∧ ∀ j, 0 ≤ j → j < 3 → j ≤ m → (j < p → M' 58 j = M 58 j ∧ M' 59 j = M 59 j ∧ M' 60 j = M 60 j) ∧ (j = p → M' 58 j = lt ∧ M' 59 j = q ∧ M' 60 j = M 62 lt) ∧ (p < j → M' 58 j = M 58 (j - 1) ∧ M' 59 j = M 59 (j - 1) ∧ M' 60 j = M 60 (j - 1))) = Post
  have main : ∀ (n : Nat) (t : Int) (A : rhM), t.toNat = n → 0 ≤ t → t ≤ m → frx (fun c j => (c = 41 ∧ j = 17) ∨ c = 58 ∨ c = 59 ∨ c = 60) M A → A 41 17 = (if m < 3 then m + 1 else 3) → Hid (∀ j, t ≤ j → j < m → q < M 59 j) → Hid (∀ j, 0 ≤ j → j < t → j < 3 → A 58 j = M 58 j ∧ A 59 j = M 59 j ∧ A 60 j = M 60 j) → Hid (∀ j, t < j → j ≤ m → j < 3 → A 58 j = M 58 (j - 1) ∧ A 59 j = M 59 (j - 1) ∧ A 60 j = M 60 (j - 1)) → rh1 wh YX17_insert 0 24 [(0, 2, 41), (1, 0, lt), (2, 0, q), (3, 0, t)] [] A Post := by
    intro n
    induction n using Nat.strongRecOn with
    | ind n ih =>
      intro t A hn t0 t1 f g17 h1 h2 h3
      refine rh1.of (rX17_insert_24 hh _ _ _ _ ?_)
      refine ⟨fun _ => ⟨by omega, by omega⟩, fun z => ⟨fun y => ?_, fun y => ⟨⟨by omega, by omega⟩, ?_⟩⟩, fun z => ⟨fun y => ⟨⟨by omega, by omega⟩, ⟨by omega, by omega⟩, ?_⟩, fun y => ?_⟩⟩
      · obtain ⟨a1, a2, a3⟩ := h2.out (t - 1) (by omega) (by omega) (by omega)
        rw [a2] at z
        refine ⟨⟨by omega, by omega⟩, ⟨by omega, by omega⟩, ?_⟩
        rintro _ rfl
        refine ⟨⟨by omega, by omega⟩, ⟨by omega, by omega⟩, ?_⟩
        simp (disch := omega) only [rh_set_a]
        rintro _ rfl
        simp (disch := omega) only [rh_set_a]
        refine ⟨⟨by omega, by omega⟩, ⟨by omega, by omega⟩, ⟨by omega, by omega⟩, ?_⟩
        refine ih _ (by omega) (t + -1) _ rfl (by omega) (by omega) (((f.st (by omega)).st (by omega)).st (by omega)) ?_ (fun j j0 j1 => ?_) (fun j j0 j1 j2 => ?_) (fun j j0 j1 j2 => ?_)
        · simp (disch := omega) only [rh_set_a, g17]
        · by_cases w : j = t - 1
          · rw [w]; exact z.2
          · exact h1.out j (by omega) j1
        · simp (disch := omega) only [rh_set_a, rh_set_j]
          exact h2.out j j0 (by omega) j2
        · by_cases w : j = t
          · rw [w]
            simp (disch := omega) only [rh_set_a, rh_set_s]
            exact ⟨a1, a2, a3⟩
          · simp (disch := omega) only [rh_set_a, rh_set_j]
            exact h3.out j (by omega) j1 j2
      · obtain ⟨a1, a2, a3⟩ := h2.out (t - 1) (by omega) (by omega) (by omega)
        rw [a2] at z
        refine ih _ (by omega) (t + -1) A rfl (by omega) (by omega) f g17 (fun j j0 j1 => ?_) (fun j j0 j1 j2 => h2.out j j0 (by omega) j2) (fun j j0 j1 j2 => by omega)
        by_cases w : j = t - 1
        · rw [w]; exact z.2
        · exact h1.out j (by omega) j1
      · rintro _ rfl
        refine ⟨hl, ⟨by omega, by omega⟩, ?_⟩
        simp (disch := omega) only [rh_set_a]
        rw [← hPost, f 62 lt (by omega)]
        refine ⟨((f.st (by omega)).st (by omega)).st (by omega), by simp (disch := omega) only [rh_set_a, g17], t, ⟨t0, t1⟩, fun w => ?_, h1.out, fun j j0 j1 j2 => ⟨fun w => ?_, fun w => ?_, fun w => ?_⟩⟩
        · obtain ⟨a1, a2, a3⟩ := h2.out (t - 1) (by omega) (by omega) (by omega)
          rw [← a2]
          exact fun k => z ⟨w, k⟩
        · simp (disch := omega) only [rh_set_a, rh_set_j]
          exact h2.out j j0 w j1
        · rw [w]
          simp (disch := omega) only [rh_set_a, rh_set_s]
          exact ⟨by first | rfl | trivial, by first | rfl | trivial, by first | rfl | trivial⟩
        · simp (disch := omega) only [rh_set_a, rh_set_j]
          exact h3.out j w j2 j1
      · have t3 : t = 3 := (by omega)
        rw [← hPost]
        refine ⟨f, g17, t, ⟨t0, t1⟩, fun w => ?_, h1.out, fun j j0 j1 j2 => ⟨fun w => h2.out j j0 w j1, fun w => by omega, fun w => by omega⟩⟩
        obtain ⟨a1, a2, a3⟩ := h2.out (t - 1) (by omega) (by omega) (by omega)
        rw [← a2]
        exact fun k => z ⟨w, k⟩
  refine rh1.of (rX17_insert_0 hh _ _ _ ?_)
  rw [hm]
  refine ⟨fun c => ⟨⟨by omega, by omega⟩, ?_⟩, fun c => ?_⟩
  · have F0 : frx (fun c j => (c = 41 ∧ j = 17) ∨ c = 58 ∨ c = 59 ∨ c = 60) M (rh_set M 41 17 (m + 1)) := frx.rf.st (by omega)
    refine main _ m _ rfl (by omega) (by omega) F0 (by rw [rh_set_s, if_pos c]) (fun j j0 j1 => by omega) (fun j j0 j1 j2 => ?_) (fun j j0 j1 j2 => by omega)
    simp (disch := omega) only [rh_set_a]
    exact ⟨by first | rfl | trivial, by first | rfl | trivial, by first | rfl | trivial⟩
  · have e3 : m = 3 := (by omega)
    have := main _ m M rfl (by omega) (by omega) frx.rf (by rw [hm, if_neg c, e3]) (fun j j0 j1 => by omega) (fun j j0 j1 j2 => ⟨rfl, rfl, rfl⟩) (fun j j0 j1 j2 => by omega)
    rwa [e3] at this
/-- the candidates so far -/
def Cds (M : rhM) (K nf : Int → Int) (e0 e1 e2 : Int) : Prop := M 41 17 = (if e0 = -1 then 0 else if e1 = -1 then 1 else if e2 = -1 then 2 else 3) ∧ (e0 ≠ -1 → M 58 0 = e0 ∧ M 59 0 = K e0 ∧ M 60 0 = nf e0) ∧ (e1 ≠ -1 → M 58 1 = e1 ∧ M 59 1 = K e1 ∧ M 60 1 = nf e1) ∧ (e2 ≠ -1 → M 58 2 = e2 ∧ M 59 2 = K e2 ∧ M 60 2 = nf e2)
theorem c_insertK (hh : rh_hs wh) {K nf : Int → Int} {N : Nat} (M : rhM) (hN : (N : Int) < 128) (h : Cds M K nf (ee0 K N) (ee1 K N) (ee2 K N)) (hK : K N ≠ -1) (h62 : M 62 N = nf N) :
    rC1 wh YX17_insert 0 [(2, 41), (0, (N : Int)), (0, K N)] M (fun _ M' => frx (fun c j => (c = 41 ∧ j = 17) ∨ c = 58 ∨ c = 59 ∨ c = 60) M M' ∧ Cds M' K nf (ee0 K (N + 1)) (ee1 K (N + 1)) (ee2 K (N + 1))) := by
  obtain ⟨o1, o2, o3, o4⟩ := ee_ord (K := K) (N := N)
  have ll := ee_lt K N
  obtain ⟨h0, h1, h2, h3⟩ := h
  have mb : 0 ≤ M 41 17 ∧ M 41 17 ≤ 3 := by rw [h0]; split; omega; split; omega; split <;> omega
  obtain ⟨r, M', E, f, g17, p, pb, p1, p2, p3⟩ := c_insert hh (lt := (N : Int)) (q := K N) M rfl mb ⟨by omega, by omega⟩
  refine ⟨r, M', E, f, ?_⟩
  have eA := ee_A (K := K) (N := N) hK
  have eB := ee_B (K := K) (N := N) hK
  have eC := ee_C (K := K) (N := N) hK
  generalize hn0 : ee0 K (N + 1) = n0 at *
  generalize hn1 : ee1 K (N + 1) = n1 at *
  generalize hn2 : ee2 K (N + 1) = n2 at *
  generalize he0 : ee0 K N = e0 at *
  generalize he1 : ee1 K N = e1 at *
  generalize he2 : ee2 K N = e2 at *
  clear hn0 hn1 hn2 he0 he1 he2
  unfold Cds
  by_cases c0 : e0 = -1
  · rw [if_pos c0] at h0
    have c1 := o1 c0
    have c2 := o2 c1
    have pz : p = 0 := (by omega)
    obtain ⟨a, b, c⟩ := eA (.inl c0)
    have q := (p3 0 (by omega) (by omega) (by omega)).2.1 pz.symm
    rw [a, b, c, c0, c1, g17, h0, h62] at *
    rw [if_pos (by omega), if_neg (by omega), if_pos rfl]
    exact ⟨by omega, fun _ => q, fun z => absurd rfl z, fun z => absurd rfl z⟩
  · rw [if_neg c0] at h0
    obtain ⟨a58, a59, a60⟩ := h1 c0
    by_cases c1 : e1 = -1
    · rw [if_pos c1] at h0
      have c2 := o2 c1
      by_cases pz : p = 0
      · have := p2 0 (by omega) (by omega)
        rw [a59] at this
        obtain ⟨a, b, c⟩ := eA (.inr this)
        have q := (p3 0 (by omega) (by omega) (by omega)).2.1 pz.symm
        have q1 := (p3 1 (by omega) (by omega) (by omega)).2.2 (by omega)
        rw [show (1 : Int) - 1 = 0 by omega, a58, a59, a60] at q1
        rw [a, b, c, g17, h0, if_pos (by omega), if_neg (by omega), if_neg c0, if_pos c1]
        rw [h62] at q
        exact ⟨by omega, fun _ => q, fun _ => q1, fun z => absurd c1 z⟩
      · have pe : p = 1 := (by omega)
        have := p1 (by omega)
        rw [pe, show (1 : Int) - 1 = 0 by omega, a59] at this
        obtain ⟨a, b, c⟩ := eB (fun z => z.elim c0 this) (.inl c1)
        have q := (p3 0 (by omega) (by omega) (by omega)).1 (by omega)
        have q1 := (p3 1 (by omega) (by omega) (by omega)).2.1 pe.symm
        rw [a58, a59, a60] at q
        rw [h62] at q1
        rw [a, b, c, g17, h0, if_pos (by omega), if_neg c0, if_neg (by omega), if_pos c1]
        exact ⟨by omega, fun _ => q, fun _ => q1, fun z => absurd c1 z⟩
    · rw [if_neg c1] at h0
      obtain ⟨b58, b59, b60⟩ := h2 c1
      have k01 := o3 c1
      by_cases c2 : e2 = -1
      · rw [if_pos c2] at h0
        by_cases pz : p = 0
        · have := p2 0 (by omega) (by omega)
          rw [a59] at this
          obtain ⟨a, b, c⟩ := eA (.inr this)
          have q := (p3 0 (by omega) (by omega) (by omega)).2.1 pz.symm
          have q1 := (p3 1 (by omega) (by omega) (by omega)).2.2 (by omega)
          have q2 := (p3 2 (by omega) (by omega) (by omega)).2.2 (by omega)
          rw [show (1 : Int) - 1 = 0 by omega, a58, a59, a60] at q1
          rw [show (2 : Int) - 1 = 1 by omega, b58, b59, b60] at q2
          rw [h62] at q
          rw [a, b, c, g17, h0, if_pos (by omega), if_neg (by omega), if_neg c0, if_neg c1]
          exact ⟨by omega, fun _ => q, fun _ => q1, fun _ => q2⟩
        · by_cases pe : p = 1
          · have w1 := p1 (by omega)
            rw [pe, show (1 : Int) - 1 = 0 by omega, a59] at w1
            have w2 := p2 1 (by omega) (by omega)
            rw [b59] at w2
            obtain ⟨a, b, c⟩ := eB (fun z => z.elim c0 w1) (.inr w2)
            have q := (p3 0 (by omega) (by omega) (by omega)).1 (by omega)
            have q1 := (p3 1 (by omega) (by omega) (by omega)).2.1 pe.symm
            have q2 := (p3 2 (by omega) (by omega) (by omega)).2.2 (by omega)
            rw [a58, a59, a60] at q
            rw [h62] at q1
            rw [show (2 : Int) - 1 = 1 by omega, b58, b59, b60] at q2
            rw [a, b, c, g17, h0, if_pos (by omega), if_neg c0, if_neg (by omega), if_neg c1]
            exact ⟨by omega, fun _ => q, fun _ => q1, fun _ => q2⟩
          · have p2e : p = 2 := (by omega)
            have w1 := p1 (by omega)
            rw [p2e, show (2 : Int) - 1 = 1 by omega, b59] at w1
            obtain ⟨a, b, c, -⟩ := eC (fun z => z.elim c0 (fun k => by omega)) (fun z => z.elim c1 w1)
            have c := c (.inl c2)
            have q := (p3 0 (by omega) (by omega) (by omega)).1 (by omega)
            have q1 := (p3 1 (by omega) (by omega) (by omega)).1 (by omega)
            have q2 := (p3 2 (by omega) (by omega) (by omega)).2.1 p2e.symm
            rw [a58, a59, a60] at q
            rw [b58, b59, b60] at q1
            rw [h62] at q2
            rw [a, b, c, g17, h0, if_pos (by omega), if_neg c0, if_neg c1, if_neg (by omega)]
            exact ⟨by omega, fun _ => q, fun _ => q1, fun _ => q2⟩
      · rw [if_neg c2] at h0
        obtain ⟨d58, d59, d60⟩ := h3 c2
        have k12 := o4 c2
        by_cases pz : p = 0
        · have := p2 0 (by omega) (by omega)
          rw [a59] at this
          obtain ⟨a, b, c⟩ := eA (.inr this)
          have q := (p3 0 (by omega) (by omega) (by omega)).2.1 pz.symm
          have q1 := (p3 1 (by omega) (by omega) (by omega)).2.2 (by omega)
          have q2 := (p3 2 (by omega) (by omega) (by omega)).2.2 (by omega)
          rw [show (1 : Int) - 1 = 0 by omega, a58, a59, a60] at q1
          rw [show (2 : Int) - 1 = 1 by omega, b58, b59, b60] at q2
          rw [h62] at q
          rw [a, b, c, g17, h0, if_neg (by omega), if_neg (by omega), if_neg c0, if_neg c1]
          exact ⟨by omega, fun _ => q, fun _ => q1, fun _ => q2⟩
        · by_cases pe : p = 1
          · have w1 := p1 (by omega)
            rw [pe, show (1 : Int) - 1 = 0 by omega, a59] at w1
            have w2 := p2 1 (by omega) (by omega)
            rw [b59] at w2
            obtain ⟨a, b, c⟩ := eB (fun z => z.elim c0 w1) (.inr w2)
            have q := (p3 0 (by omega) (by omega) (by omega)).1 (by omega)
            have q1 := (p3 1 (by omega) (by omega) (by omega)).2.1 pe.symm
            have q2 := (p3 2 (by omega) (by omega) (by omega)).2.2 (by omega)
            rw [a58, a59, a60] at q
            rw [h62] at q1
            rw [show (2 : Int) - 1 = 1 by omega, b58, b59, b60] at q2
            rw [a, b, c, g17, h0, if_neg (by omega), if_neg c0, if_neg (by omega), if_neg c1]
            exact ⟨by omega, fun _ => q, fun _ => q1, fun _ => q2⟩
          · by_cases p2e : p = 2
            · have w1 := p1 (by omega)
              rw [p2e, show (2 : Int) - 1 = 1 by omega, b59] at w1
              have w2 := p2 2 (by omega) (by omega)
              rw [d59] at w2
              obtain ⟨a, b, c, -⟩ := eC (fun z => z.elim c0 (fun k => by omega)) (fun z => z.elim c1 w1)
              have c := c (.inr w2)
              have q := (p3 0 (by omega) (by omega) (by omega)).1 (by omega)
              have q1 := (p3 1 (by omega) (by omega) (by omega)).1 (by omega)
              have q2 := (p3 2 (by omega) (by omega) (by omega)).2.1 p2e.symm
              rw [a58, a59, a60] at q
              rw [b58, b59, b60] at q1
              rw [h62] at q2
              rw [a, b, c, g17, h0, if_neg (by omega), if_neg c0, if_neg c1, if_neg (by omega)]
              exact ⟨by omega, fun _ => q, fun _ => q1, fun _ => q2⟩
            · have p3e : p = 3 := (by omega)
              have w1 := p1 (by omega)
              rw [p3e, show (3 : Int) - 1 = 2 by omega, d59] at w1
              obtain ⟨a, b, -, c⟩ := eC (fun z => z.elim c0 (fun k => by omega)) (fun z => z.elim c1 (fun k => by omega))
              have c := c (fun z => z.elim c2 w1)
              have q := (p3 0 (by omega) (by omega) (by omega)).1 (by omega)
              have q1 := (p3 1 (by omega) (by omega) (by omega)).1 (by omega)
              have q2 := (p3 2 (by omega) (by omega) (by omega)).1 (by omega)
              rw [a58, a59, a60] at q
              rw [b58, b59, b60] at q1
              rw [d58, d59, d60] at q2
              rw [a, b, c, g17, h0, if_neg (by omega), if_neg c0, if_neg c1, if_neg c2]
              exact ⟨by omega, fun _ => q, fun _ => q1, fun _ => q2⟩
end Choose
