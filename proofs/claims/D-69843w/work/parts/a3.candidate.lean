/-! ===== LAYER 2: candidates: the model picks; candidate ===== -/
section CandO
variable {wh wm : rhW}
/-- one round of the model: the best of those left -/
theorem m_round (hm : rh_ms wm) {i m : Int} {K : Int → Int} (hi : 0 ≤ i ∧ i ≤ 2) (M : rhM) (hK : ∀ c, 0 ≤ c → c < 128 → M 84 c = K c) (h119 : M 0 119 = m) (m0 : 0 ≤ m ∧ m ≤ i) :
    ∃ A v, eS wm YX32_findCandidates 1 189 [(0, 2, 0), (3, 0, i)] [] M 189 [(0, 2, 0), (3, 0, i + 1)] [] A ∧ frx (fun c j => (c = 0 ∧ j = 119) ∨ c = 86 ∨ c = 87) M A ∧ v = nxt (fun c => K c ≠ -1 ∧ ∀ k, 0 ≤ k → k < i → k < m → M 86 k ≠ c) K (fun _ => 0) 128 ∧ (v = -1 → A = M) ∧ (v ≠ -1 → A 0 119 = m + 1 ∧ A 86 m = v ∧ A 87 m = K v ∧ ∀ k, k ≠ m → A 86 k = M 86 k ∧ A 87 k = M 87 k) := by
  generalize hal : (fun c => K c ≠ -1 ∧ ∀ k, 0 ≤ k → k < i → k < m → M 86 k ≠ c) = al
  have ha : ∀ c, al c ↔ (K c ≠ -1 ∧ ∀ k, 0 ≤ k → k < i → k < m → M 86 k ≠ c) := fun c => by rw [← hal]
  clear hal
  -- whether a letter is free
  have free : ∀ (d : Nat) (b c v k : Int), k + d = i → 0 ≤ k → 0 ≤ c → c < 128 → (v ≠ 0 ↔ (K c ≠ -1 ∧ ∀ j, 0 ≤ j → j < k → j < m → M 86 j ≠ c)) → ∃ u, (u ≠ 0 ↔ al c) ∧ eS wm YX32_findCandidates 1 229 [(0, 2, 0), (3, 0, i), (4, 0, b), (5, 0, c), (6, 0, v), (7, 0, k)] [] M 229 [(0, 2, 0), (3, 0, i), (4, 0, b), (5, 0, c), (6, 0, u), (7, 0, i)] [] M := by
    intro d
    induction d with
    | zero =>
      intro b c v k hk k0 c0 c1 hv
      refine ⟨v, ?_, by rw [show k = i by omega]; exact eS.rf⟩
      rw [hv, ha]
      exact ⟨fun z => ⟨z.1, fun j j0 j1 => z.2 j j0 (by omega)⟩, fun z => ⟨z.1, fun j j0 j1 => z.2 j j0 (by omega)⟩⟩
    | succ d ih =>
      intro b c v k hk k0 c0 c1 hv
      obtain ⟨u, hu, eu⟩ := ih b c (rh_if (v ≠ 0) (rh_if (m ≤ k ∨ M 86 k ≠ c) (1 : Int) 0) 0) (k + 1) (by omega) (by omega) c0 c1 (by
        by_cases q : v ≠ 0
        · rw [rh_if_t q, if1_ne]
          have hq := hv.mp q
          constructor
          · intro z
            refine ⟨hq.1, fun j j0 j1 j2 => ?_⟩
            by_cases e : j = k
            · rw [e]; rcases z with z | z
              · omega
              · exact z
            · exact hq.2 j j0 (by omega) j2
          · intro z
            by_cases e : m ≤ k
            · exact .inl e
            · exact .inr (z.2 k k0 (by omega) (by omega))
        · rw [rh_if_f q]
          refine ⟨fun z => absurd rfl z, fun z => absurd (hv.mpr ⟨z.1, fun j j0 j1 => z.2 j j0 (by omega)⟩) q⟩)
      refine ⟨u, hu, eS.of (fun P HP => ?_)⟩
      refine rh1.of (rX32_findCandidates_229 hm _ _ _ _ _ _ ?_)
      rw [h119]
      refine ⟨fun _ => ⟨fun _ _ => ⟨by omega, by omega⟩, fun w ew => ⟨⟨by omega, by omega⟩, ?_⟩⟩, fun z => by omega⟩
      rw [ew]
      exact rh1.s eu HP
  have inner : ∀ (d N : Nat), (N : Int) + d = 128 → eS wm YX32_findCandidates 1 200 [(0, 2, 0), (3, 0, i), (4, 0, nxt al K (fun _ => 0) N), (5, 0, (N : Int))] [] M 200 [(0, 2, 0), (3, 0, i), (4, 0, nxt al K (fun _ => 0) 128), (5, 0, 128)] [] M := by
    intro d
    induction d with
    | zero =>
      intro N hN
      rw [show N = 128 by omega]
      exact eS.rf
    | succ d ih =>
      intro N hN
      have e := ih (N + 1) (by omega)
      have nb := nxt_b (al := al) (T := K) (L := fun _ => 0) N
      obtain ⟨u, hu, eu⟩ := free i.toNat (nxt al K (fun _ => 0) N) N (rh_if (K N ≠ -1) (1 : Int) 0) 0 (by omega) (by omega) (by omega) (by omega) (by rw [if1_ne]; exact ⟨fun z => ⟨z, fun j j0 j1 => by omega⟩, fun z => z.1⟩)
      refine eS.of (fun P HP => ?_)
      refine rh1.of (rX32_findCandidates_200 hm _ _ _ _ ?_)
      rw [hK N (by omega) (by omega)]
      refine ⟨fun _ => ⟨⟨by omega, by omega⟩, fun w ew => ?_⟩, fun z => by omega⟩
      rw [ew]
      refine rh1.s eu ?_
      refine rh1.of (rX32_findCandidates_229 hm _ _ _ _ _ _ ?_)
      refine ⟨fun z => by omega, fun _ => ⟨fun q => ?_, fun q w ew => ⟨⟨by omega, by omega⟩, ?_⟩⟩⟩
      · refine ⟨fun _ => ⟨by omega, by omega⟩, fun z => ?_, ?_⟩
        · rcases nb with nb | nb
          · exact absurd nb z
          · exact ⟨by omega, by omega⟩
        · intro w ew
          refine ⟨⟨by omega, by omega⟩, ?_⟩
          have ew2 : w = nxt al K (fun _ => 0) (N + 1) := by
            simp only [nxt]
            rw [ew, hK N (by omega) (by omega)]
            refine rh_if_cg ⟨fun z => ⟨hu.mp q, ?_⟩, fun z => ?_⟩
            · rcases z with z | z
              · exact .inl z
              · rcases nb with nb | nb
                · exact .inl nb
                · rw [hK _ nb.1 (by omega)] at z; exact .inr (.inl z)
            · rcases z.2 with z | z | z
              · exact .inl z
              · rcases nb with nb | nb
                · exact .inl nb
                · rw [hK _ nb.1 (by omega)]; exact .inr z
              · omega
          rw [ew2, show (N : Int) + 1 = ((N + 1 : Nat) : Int) by omega]
          exact rh1.s e HP
      · have ew2 : w = nxt al K (fun _ => 0) (N + 1) := by
          rw [ew]
          exact (nxt_sk (fun z => q (hu.mpr z))).symm
        rw [ew2, show (N : Int) + 1 = ((N + 1 : Nat) : Int) by omega]
        exact rh1.s e HP
  have e0 := inner 128 0 rfl
  have nb := nxt_b (al := al) (T := K) (L := fun _ => 0) 128
  by_cases q : nxt al K (fun _ => 0) 128 = -1
  · refine ⟨M, _, eS.of (fun P HP => ?_), frx.rf, rfl, fun _ => rfl, fun z => absurd q z⟩
    refine rh1.of (rX32_findCandidates_189 hm _ _ ?_)
    refine ⟨fun _ => rh1.s e0 ?_, fun z => by omega⟩
    refine rh1.of (rX32_findCandidates_200 hm _ _ _ _ ?_)
    exact ⟨fun z => by omega, fun _ => ⟨fun z => absurd q z, fun _ => ⟨⟨by omega, by omega⟩, HP⟩⟩⟩
  · have nr : 0 ≤ nxt al K (fun _ => 0) 128 ∧ nxt al K (fun _ => 0) 128 < 128 := by
      rcases nb with nb | nb
      · exact absurd nb q
      · exact ⟨nb.1, nb.2.1⟩
    generalize hv : nxt al K (fun _ => 0) 128 = v at *
    refine ⟨rh_set (rh_set (rh_set M 86 m v) 87 m (K v)) 0 119 (m + 1), v, eS.of (fun P HP => ?_), ((frx.rf.st (by omega)).st (by omega)).st (by omega), rfl, fun z => absurd z q, fun _ => ⟨rh_set_s _ _ _ _, ?_, ?_, fun k hk => ⟨?_, ?_⟩⟩⟩
    · refine rh1.of (rX32_findCandidates_189 hm _ _ ?_)
      refine ⟨fun _ => rh1.s e0 ?_, fun z => by omega⟩
      refine rh1.of (rX32_findCandidates_200 hm _ _ _ _ ?_)
      rw [h119]
      refine ⟨fun z => by omega, fun _ => ⟨fun _ => ⟨⟨by omega, by omega⟩, ?_⟩, fun z => absurd q z⟩⟩
      rintro _ rfl
      simp (disch := omega) only [rh_set_a, h119]
      rw [hK v nr.1 nr.2]
      refine ⟨nr, ⟨by omega, by omega⟩, ?_⟩
      rintro _ rfl
      simp (disch := omega) only [rh_set_a, h119]
      exact ⟨⟨by omega, by omega⟩, ⟨by omega, by omega⟩, HP⟩
    · rw [rh_set_a (by omega), rh_set_a (by omega), rh_set_s]
    · rw [rh_set_a (by omega), rh_set_s]
    · rw [rh_set_a (by omega), rh_set_a (by omega), rh_set_j hk]
    · rw [rh_set_a (by omega), rh_set_j hk, rh_set_a (by omega)]
/-- candidates in the model -/
def Cdm (M : rhM) (K : Int → Int) (e0 e1 e2 : Int) : Prop := M 0 119 = (if e0 = -1 then 0 else if e1 = -1 then 1 else if e2 = -1 then 2 else 3) ∧ (e0 ≠ -1 → M 86 0 = e0 ∧ M 87 0 = K e0) ∧ (e1 ≠ -1 → M 86 1 = e1 ∧ M 87 1 = K e1) ∧ (e2 ≠ -1 → M 86 2 = e2 ∧ M 87 2 = K e2)
theorem m_sel (hm : rh_ms wm) {tv : Int} {nd : Int → Int} (M : rhM) (hnd : ∀ c, -1 ≤ nd c) (h84 : ∀ c, 0 ≤ c → c < 128 → M 84 c = nd c) :
    rh1 wm YX32_findCandidates 1 121 [(0, 2, 0), (2, 0, tv), (3, 0, 0)] [] M (fun _ M' => frx (fun c j => (c = 0 ∧ j = 119) ∨ c = 84 ∨ c = 86 ∨ c = 87) M M' ∧ Cdm M' (kst nd tv) (ee0 (kst nd tv) 128) (ee1 (kst nd tv) 128) (ee2 (kst nd tv) 128)) := by
  have key : ∀ (vq : Nat) (c : Int) (A : rhM), (128 - c).toNat = vq → (0 ≤ c) → (c ≤ 128) → (frx (fun c _ => c = 84) M A) → ((∀ j, 0 ≤ j → j < c → A 84 j = kst nd tv j)) → ((∀ j, c ≤ j → j < 128 → A 84 j = nd j)) → rh1 wm YX32_findCandidates 1 121 [(0, 2, 0), (2, 0, tv), (3, 0, c)] [] A (fun _ M' => frx (fun c j => (c = 0 ∧ j = 119) ∨ c = 84 ∨ c = 86 ∨ c = 87) M M' ∧ Cdm M' (kst nd tv) (ee0 (kst nd tv) 128) (ee1 (kst nd tv) 128) (ee2 (kst nd tv) 128)) := by
    intro vq
    induction vq using Nat.strongRecOn with
    | ind vq ih =>
      intro c A hvq c0 c1 f h1 h2
      refine rh1.of (rX32_findCandidates_121 hm _ _ _ ?_)
      refine ⟨fun z => ?_, fun z => ?_⟩
      · have e := h2 c (by omega) z
        have hn := hnd c
        rw [e]
        refine ⟨⟨by omega, by omega⟩, fun q => ⟨⟨by omega, by omega⟩, ⟨by omega, by omega⟩, fun v ev => ?_⟩, fun q => ⟨⟨by omega, by omega⟩, ?_⟩⟩
        · have ek : v = kst nd tv c := by
            rw [ev, rh_ifd, rh_ifd]; unfold kst; rw [if_neg q]
            split <;> split <;> split <;> omega
          have kb := kst_b (tv := tv) hn
          refine ⟨⟨by omega, by omega⟩, ⟨by omega, by omega⟩, ⟨by omega, by omega⟩, ih _ (by omega) (c + 1) _ rfl (by omega) (by omega) (f.st rfl) (fun j j0 j1 => ?_) (fun j j0 j1 => ?_)⟩
          · by_cases w : j = c
            · rw [w, rh_set_s, ek]
            · rw [rh_set_j w]; exact h1 j j0 (by omega)
          · rw [rh_set_j (by omega)]; exact h2 j (by omega) j1
        · refine ih _ (by omega) (c + 1) A rfl (by omega) (by omega) f (fun j j0 j1 => ?_) (fun j j0 j1 => h2 j (by omega) j1)
          by_cases w : j = c
          · rw [w, e]; unfold kst; rw [if_pos (by omega)]; omega
          · exact h1 j j0 (by omega)
      · have hK : ∀ j, 0 ≤ j → j < 128 → A 84 j = kst nd tv j := fun j j0 j1 => h1 j j0 (by omega)
        obtain ⟨o1, o2, o3, o4⟩ := ee_ord (K := kst nd tv) (N := 128)
        have F0 : frx (fun c j => (c = 0 ∧ j = 119) ∨ c = 86 ∨ c = 87) A (rh_set A 0 119 0) := frx.rf.st (by omega)
        generalize hA0 : rh_set A 0 119 0 = A0 at F0
        have k0 : A0 0 119 = 0 := by rw [← hA0, rh_set_s]
        obtain ⟨A1, v0, E1, f1, w0, n0, y0⟩ := m_round hm (i := 0) (m := 0) (K := kst nd tv) ⟨by omega, by omega⟩ A0 (fun j j0 j1 => by rw [F0 _ _ (by omega)]; exact hK j j0 j1) k0 ⟨by omega, by omega⟩
        have ev0 : v0 = ee0 (kst nd tv) 128 := by
          rw [w0]
          exact nxt_cg 128 (fun i i0 i1 => ⟨fun z => z.1, fun z => ⟨z, fun k k0 k1 => by omega⟩⟩) (fun _ _ _ _ => ⟨rfl, rfl⟩)
        have d1 : A1 0 119 = if v0 = -1 then 0 else 1 := by
          by_cases q : v0 = -1
          · rw [n0 q, k0, if_pos q]
          · rw [(y0 q).1, if_neg q]; rfl
        have d1b : 0 ≤ A1 0 119 ∧ A1 0 119 ≤ 1 := by rw [d1]; split <;> omega
        obtain ⟨A2, v1, E2, f2, w1, n1, y1⟩ := m_round hm (i := 1) (m := A1 0 119) (K := kst nd tv) ⟨by omega, by omega⟩ A1 (fun j j0 j1 => by rw [f1 _ _ (by omega), F0 _ _ (by omega)]; exact hK j j0 j1) rfl d1b
        have ev1 : v1 = ee1 (kst nd tv) 128 := by
          rw [w1]
          refine nxt_cg 128 (fun i i0 i1 => ⟨fun z => ⟨z.1, ?_⟩, fun z => ⟨z.1, fun k q0 q1 q2 => ?_⟩⟩) (fun _ _ _ _ => ⟨rfl, rfl⟩)
          · rw [← ev0]
            by_cases q : v0 = -1
            · omega
            · have := z.2 0 (by omega) (by omega) (by rw [d1, if_neg q]; omega)
              rw [(y0 q).2.1] at this
              exact fun e => this e.symm
          · have q : v0 ≠ -1 := fun q => by rw [d1, if_pos q] at q2; omega
            rw [show k = 0 by omega, (y0 q).2.1, ev0]
            exact fun e => z.2 e.symm
        have d2 : A2 0 119 = if v0 = -1 then 0 else if v1 = -1 then 1 else 2 := by
          by_cases q : v0 = -1
          · have q1 : v1 = -1 := by rw [ev1]; rw [ev0] at q; exact o1 q
            rw [n1 q1, d1, if_pos q, if_pos q]
          · by_cases q1 : v1 = -1
            · rw [n1 q1, d1, if_neg q, if_neg q, if_pos q1]
            · rw [(y1 q1).1, d1, if_neg q, if_neg q, if_neg q1]; rfl
        have d2b : 0 ≤ A2 0 119 ∧ A2 0 119 ≤ 2 := by rw [d2]; split; omega; split <;> omega
        have g20 : v0 ≠ -1 → A2 86 0 = v0 ∧ A2 87 0 = kst nd tv v0 := fun q => by
          by_cases q1 : v1 = -1
          · rw [n1 q1]; exact ⟨(y0 q).2.1, (y0 q).2.2.1⟩
          · have := (y1 q1).2.2.2 0 (by rw [d1, if_neg q]; omega)
            rw [this.1, this.2]; exact ⟨(y0 q).2.1, (y0 q).2.2.1⟩
        have g21 : v1 ≠ -1 → A2 86 1 = v1 ∧ A2 87 1 = kst nd tv v1 := fun q1 => by
          have q : v0 ≠ -1 := fun q => q1 (by rw [ev1]; rw [ev0] at q; exact o1 q)
          have e : A1 0 119 = 1 := by rw [d1, if_neg q]
          have := y1 q1
          rw [e] at this
          exact ⟨this.2.1, this.2.2.1⟩
        obtain ⟨A3, v2, E3, f3, w2, n2, y2⟩ := m_round hm (i := 2) (m := A2 0 119) (K := kst nd tv) ⟨by omega, by omega⟩ A2 (fun j j0 j1 => by rw [f2 _ _ (by omega), f1 _ _ (by omega), F0 _ _ (by omega)]; exact hK j j0 j1) rfl d2b
        have ev2 : v2 = ee2 (kst nd tv) 128 := by
          rw [w2]
          refine nxt_cg 128 (fun i i0 i1 => ⟨fun z => ⟨z.1, ?_, ?_⟩, fun z => ⟨z.1, fun k q0 q1 q2 => ?_⟩⟩) (fun _ _ _ _ => ⟨rfl, rfl⟩)
          · rw [← ev0]
            by_cases q : v0 = -1
            · omega
            · have := z.2 0 (by omega) (by omega) (by rw [d2, if_neg q]; split <;> omega)
              rw [(g20 q).1] at this
              exact fun e => this e.symm
          · rw [← ev1]
            by_cases q1 : v1 = -1
            · omega
            · have q : v0 ≠ -1 := fun q => q1 (by rw [ev1]; rw [ev0] at q; exact o1 q)
              have := z.2 1 (by omega) (by omega) (by rw [d2, if_neg q, if_neg q1]; omega)
              rw [(g21 q1).1] at this
              exact fun e => this e.symm
          · have q : v0 ≠ -1 := fun q => by rw [d2, if_pos q] at q2; omega
            by_cases e : k = 0
            · rw [e, (g20 q).1, ev0]; exact fun e => z.2.1 e.symm
            · have q1' : v1 ≠ -1 := fun q1' => by rw [d2, if_neg q, if_pos q1'] at q2; omega
              rw [show k = 1 by omega, (g21 q1').1, ev1]; exact fun e => z.2.2 e.symm
        refine rh1.s E1 (rh1.s E2 (rh1.s E3 ?_))
        refine rh1.of (rX32_findCandidates_189 hm _ _ ?_)
        refine ⟨fun z => by omega, fun _ => ⟨?_, ?_⟩⟩
        · have fz : frx (fun c j => (c = 0 ∧ j = 119) ∨ c = 86 ∨ c = 87) A A3 := ((F0.tr f1).tr f2).tr f3
          exact (f.w (fun c j h => .inr (.inl h))).tr (fz.w (fun c j h => by omega))
        · rw [← ev0, ← ev1, ← ev2]
          rw [← ev0] at o1 o3
          rw [← ev1] at o1 o2 o3 o4
          rw [← ev2] at o2 o4
          by_cases q2 : v2 = -1
          · rw [n2 q2]
            refine ⟨?_, g20, g21, fun z => absurd q2 z⟩
            rw [d2]
            by_cases q : v0 = -1
            · rw [if_pos q, if_pos q]
            · rw [if_neg q, if_neg q]
              by_cases q1 : v1 = -1
              · rw [if_pos q1, if_pos q1]
              · rw [if_neg q1, if_neg q1, if_pos q2]
          · have q1 : v1 ≠ -1 := fun z => q2 (o2 z)
            have q : v0 ≠ -1 := fun z => q1 (o1 z)
            have e : A2 0 119 = 2 := by rw [d2, if_neg q, if_neg q1]
            have w := y2 q2
            rw [e] at w
            refine ⟨by rw [w.1, if_neg q, if_neg q1, if_neg q2]; rfl, fun _ => ?_, fun _ => ?_, fun _ => ⟨w.2.1, w.2.2.1⟩⟩
            · have := w.2.2.2 0 (by omega)
              rw [this.1, this.2]; exact g20 q
            · have := w.2.2.2 1 (by omega)
              rw [this.1, this.2]; exact g21 q1
  exact key _ 0 M rfl (by omega) (by omega) frx.rf (fun j j0 j1 => by omega) (fun j j0 j1 => h84 j (by omega) j1)
end CandO
