/-! ===== LAYER 2: texts: the model's marks, words, texts ===== -/
section TxtM
variable {wh wm : rhW}
theorem ap1l {l : List Int} {c : Int} : (l ++ [c]).length = l.length + 1 := by rw [List.length_append]; rfl
theorem c_tag0 (hm : rh_ms wm) {a : Int} {B : rhM} {l : List Int} (h : Mox B l) (hl : l.length ≤ 15900) : ∃ B', eC wm YX32_putTag 1 [(2, 0), (0, a), (0, 0)] B 0 B' ∧ Mox B' (l ++ [60, a, 62]) ∧ frx Fptx B B' := by
  have o1 := h.ad 60
  have o2 := o1.ad a
  have o3 := o2.ad 62
  have b1 := apg_ob (c := 60) h.1 ⟨by omega, by omega⟩
  have b2 := apg_ob (c := a) o1.1 ⟨by omega, by rw [ap1l]; omega⟩
  have b3 := apg_ob (c := 62) o2.1 ⟨by omega, by rw [ap1l, ap1l]; omega⟩
  rw [List.append_assoc, List.append_assoc] at o3
  refine ⟨_, eC.of1 (rC1.of (by decide) (LE0 rfl) ?_), o3, (apg_f.tr apg_f).tr apg_f⟩
  refine rh1.of (rX32_putTag_0 hm _ _ _ ?_)
  refine ⟨b1.1, b1.2, fun z => by omega, fun _ M3 e3 => ?_⟩
  subst e3
  refine ⟨b2.1, b2.2, fun _ M4 e4 => ?_, fun z => absurd (by decide) z⟩
  subst e4
  exact ⟨b3.1, b3.2, rfl, rfl⟩
theorem c_tag1 (hm : rh_ms wm) {a : Int} {B : rhM} {l : List Int} (h : Mox B l) (hl : l.length ≤ 15900) : ∃ B', eC wm YX32_putTag 1 [(2, 0), (0, a), (0, 1)] B 0 B' ∧ Mox B' (l ++ [60, 47, a, 62]) ∧ frx Fptx B B' := by
  have o1 := h.ad 60
  have o2 := o1.ad 47
  have o3 := o2.ad a
  have o4 := o3.ad 62
  have b1 := apg_ob (c := 60) h.1 ⟨by omega, by omega⟩
  have b2 := apg_ob (c := 47) o1.1 ⟨by omega, by rw [ap1l]; omega⟩
  have b3 := apg_ob (c := a) o2.1 ⟨by omega, by rw [ap1l, ap1l]; omega⟩
  have b4 := apg_ob (c := 62) o3.1 ⟨by omega, by rw [ap1l, ap1l, ap1l]; omega⟩
  rw [List.append_assoc, List.append_assoc, List.append_assoc] at o4
  refine ⟨_, eC.of1 (rC1.of (by decide) (LE0 rfl) ?_), o4, ((apg_f.tr apg_f).tr apg_f).tr apg_f⟩
  refine rh1.of (rX32_putTag_0 hm _ _ _ ?_)
  refine ⟨b1.1, b1.2, fun _ M3 e3 => ?_, fun z => by omega⟩
  subst e3
  refine ⟨b2.1, b2.2, fun M4 e4 => ?_⟩
  subst e4
  refine ⟨b3.1, b3.2, fun _ M5 e5 => ?_, fun z => absurd (by decide) z⟩
  subst e5
  exact ⟨b4.1, b4.2, rfl, rfl⟩
/-- the signs of a word, with marks -/
theorem m_mkC (hm : rh_ms wm) {k : Int} {n : Nat} {B : rhM} (hk : 0 ≤ k ∧ k < 320) (hn : n ≤ 12) (hw : wsz B k = n) {l : List Int} (hl : l.length ≤ 15000) : ∀ (u t : Nat) (B1 : rhM), t + u = n → Mox B1 (l ++ wtx B k 1 t) → frx Fptx B B1 → ∃ B', (∀ P : Int → rhM → Prop, rh1 wm YX32_putMarkedWord 2 104 [(0, 2, 0), (1, 0, k), (2, 0, (n : Int))] [] B' P → rh1 wm YX32_putMarkedWord 2 104 [(0, 2, 0), (1, 0, k), (2, 0, (t : Int))] [] B1 P) ∧ Mox B' (l ++ wtx B k 1 n) ∧ frx Fptx B B' := by
  intro u
  induction u with
  | zero =>
    intro t B1 ht o1 f1
    have e : t = n := by omega
    subst e
    exact ⟨B1, fun P K => K, o1, f1⟩
  | succ u ih =>
    intro t B1 ht o1 f1
    have wz := wsz_f f1 (fun c i c0 c1 => by unfold Fptx; omega) k
    have hw' : rh_if ((B1 123 k) = 1) (B1 128 k) (B1 125 (4 * k)) = n := wz.1.trans hw
    obtain ⟨c, hc⟩ : ∃ c, c = wch B k t := ⟨_, rfl⟩
    have hv' : rh_if ((B1 123 k) = 1) (B1 127 ((12 * k) + t)) (B1 126 ((48 * k) + t)) = c := (wz.2 t).trans hc.symm
    have wl := wtx_l (M := B) (k := k) (mk := 1) t
    have lb : (l ++ wtx B k 1 t).length ≤ 15060 := by rw [List.length_append]; omega
    have ew : wtx B k 1 (t + 1) = wtx B k 1 t ++ esc c := by
      rw [hc]
      show wtx B k 1 t ++ (if (1 : Int) = 0 then [wch B k t] else esc (wch B k t)) = _
      rw [if_neg (by decide)]
    have fin : ∀ B2 : rhM, Mox B2 (l ++ wtx B k 1 t ++ esc c) → frx Fptx B B2 → (∀ P : Int → rhM → Prop, rh1 wm YX32_putMarkedWord 2 104 [(0, 2, 0), (1, 0, k), (2, 0, (t : Int) + 1)] [] B2 P → rh1 wm YX32_putMarkedWord 2 104 [(0, 2, 0), (1, 0, k), (2, 0, (t : Int))] [] B1 P) → ∃ B', (∀ P : Int → rhM → Prop, rh1 wm YX32_putMarkedWord 2 104 [(0, 2, 0), (1, 0, k), (2, 0, (n : Int))] [] B' P → rh1 wm YX32_putMarkedWord 2 104 [(0, 2, 0), (1, 0, k), (2, 0, (t : Int))] [] B1 P) ∧ Mox B' (l ++ wtx B k 1 n) ∧ frx Fptx B B' := fun B2 o2 f2 H => by
      rw [List.append_assoc, ← ew] at o2
      obtain ⟨B', E, g1, g2⟩ := ih (t + 1) B2 (by omega) o2 f2
      exact ⟨B', fun P K => H P (E P K), g1, g2⟩
    have b1 := apg_ob (c := 38) o1.1 ⟨by omega, by omega⟩
    have o2 := o1.ad 38
    have f2 : frx Fptx B (apg 140 177 B1 38) := f1.tr apg_f
    by_cases c1 : c = 38
    · have o3 := o2.ad 97
      have o4 := o3.ad 109
      have o5 := o4.ad 112
      have o6 := o5.ad 59
      have b2 := apg_ob (c := 97) o2.1 ⟨by omega, by rw [ap1l]; omega⟩
      have b3 := apg_ob (c := 109) o3.1 ⟨by omega, by rw [ap1l, ap1l]; omega⟩
      have b4 := apg_ob (c := 112) o4.1 ⟨by omega, by rw [ap1l, ap1l, ap1l]; omega⟩
      have b5 := apg_ob (c := 59) o5.1 ⟨by omega, by rw [ap1l, ap1l, ap1l, ap1l]; omega⟩
      refine fin _ ?_ ((((f2.tr (apg_f (c := 97))).tr (apg_f (c := 109))).tr (apg_f (c := 112))).tr (apg_f (c := 59))) (fun P K => ?_)
      · have e : esc c = [38, 97, 109, 112, 59] := by unfold esc; rw [if_pos c1]
        rw [e]
        simp only [List.append_assoc, List.cons_append, List.nil_append] at o6 ⊢
        exact o6
      · refine rh1.of (rX32_putMarkedWord_104 hm _ _ _ ?_)
        rw [hw', hv']
        refine ⟨⟨by omega, by omega⟩, fun _ => ⟨by omega, by omega⟩, fun _ => ⟨by omega, by omega⟩, fun _ => ⟨⟨by omega, by omega⟩, fun _ => ⟨by omega, by omega⟩, fun _ => ⟨by omega, by omega⟩, fun y hy => ?_⟩, fun z => by omega⟩
        rw [hy, rh_if_t c1, rh_if_t c1]
        refine ⟨fun _ => ⟨b1.1, b1.2, fun M3 e3 => ?_⟩, fun z => absurd (.inl c1) z⟩
        subst e3
        refine ⟨b2.1, b2.2, fun M4 e4 => ?_⟩
        subst e4
        refine ⟨b3.1, b3.2, fun _ M5 e5 => ?_, fun z => absurd c1 z⟩
        subst e5
        refine ⟨b4.1, b4.2, fun M6 e6 => ?_⟩
        subst e6
        exact ⟨b5.1, b5.2, ⟨by omega, by omega⟩, K⟩
    have sp : ∀ d : Int, (c = 60 ∨ c = 62) → rh_if (c = 60) (108 : Int) 103 = d → esc c = [38, d, 116, 59] → ∃ B', (∀ P : Int → rhM → Prop, rh1 wm YX32_putMarkedWord 2 104 [(0, 2, 0), (1, 0, k), (2, 0, (n : Int))] [] B' P → rh1 wm YX32_putMarkedWord 2 104 [(0, 2, 0), (1, 0, k), (2, 0, (t : Int))] [] B1 P) ∧ Mox B' (l ++ wtx B k 1 n) ∧ frx Fptx B B' := fun d cc hd he => by
      have o3 := o2.ad d
      have o4 := o3.ad 116
      have o5 := o4.ad 59
      have b2 := apg_ob (c := d) o2.1 ⟨by omega, by rw [ap1l]; omega⟩
      have b3 := apg_ob (c := 116) o3.1 ⟨by omega, by rw [ap1l, ap1l]; omega⟩
      have b4 := apg_ob (c := 59) o4.1 ⟨by omega, by rw [ap1l, ap1l, ap1l]; omega⟩
      refine fin _ ?_ (((f2.tr (apg_f (c := d))).tr (apg_f (c := 116))).tr (apg_f (c := 59))) (fun P K => ?_)
      · rw [he]
        simp only [List.append_assoc, List.cons_append, List.nil_append] at o5 ⊢
        exact o5
      · refine rh1.of (rX32_putMarkedWord_104 hm _ _ _ ?_)
        rw [hw', hv']
        refine ⟨⟨by omega, by omega⟩, fun _ => ⟨by omega, by omega⟩, fun _ => ⟨by omega, by omega⟩, fun _ => ⟨⟨by omega, by omega⟩, fun _ => ⟨by omega, by omega⟩, fun _ => ⟨by omega, by omega⟩, fun y hy => ?_⟩, fun z => by omega⟩
        rw [hy, rh_if_f c1, rh_if_f c1, hd]
        refine ⟨fun _ => ⟨b1.1, b1.2, fun M3 e3 => ?_⟩, fun z => absurd (.inr cc) z⟩
        subst e3
        refine ⟨b2.1, b2.2, fun M4 e4 => ?_⟩
        subst e4
        refine ⟨b3.1, b3.2, fun z => absurd z c1, fun _ M5 e5 => ?_⟩
        subst e5
        exact ⟨b4.1, b4.2, ⟨by omega, by omega⟩, K⟩
    by_cases c2 : c = 60
    · exact sp 108 (.inl c2) (rh_if_t c2) (by unfold esc; rw [if_neg c1, if_pos c2])
    by_cases c3 : c = 62
    · exact sp 103 (.inr c3) (rh_if_f c2) (by unfold esc; rw [if_neg c1, if_neg c2, if_pos c3])
    · have b0 := apg_ob (c := c) o1.1 ⟨by omega, by omega⟩
      refine fin (apg 140 177 B1 c) ?_ (f1.tr apg_f) (fun P K => ?_)
      · have e : esc c = [c] := by unfold esc; rw [if_neg c1, if_neg c2, if_neg c3]
        rw [e]
        exact o1.ad c
      · refine rh1.of (rX32_putMarkedWord_104 hm _ _ _ ?_)
        rw [hw', hv']
        refine ⟨⟨by omega, by omega⟩, fun _ => ⟨by omega, by omega⟩, fun _ => ⟨by omega, by omega⟩, fun _ => ⟨⟨by omega, by omega⟩, fun _ => ⟨by omega, by omega⟩, fun _ => ⟨by omega, by omega⟩, fun y hy => ?_⟩, fun z => by omega⟩
        rw [hy]
        refine ⟨fun z => ?_, fun _ => ⟨b0.1, b0.2, ⟨by omega, by omega⟩, K⟩⟩
        rcases z with z | z | z
        · exact absurd z c1
        · exact absurd z c2
        · exact absurd z c3
theorem nmv_f {M B : rhM} {k : Int} (f : frx Fptx M B) (i : Nat) : nmv B k i = nmv M k i := by
  unfold nmv
  rw [f 115 k (by unfold Fptx; omega), f 116 k (by unfold Fptx; omega), f 117 k (by unfold Fptx; omega), f 118 k (by unfold Fptx; omega), f 122 k (by unfold Fptx; omega)]
theorem wtx_f {M B : rhM} {k mk : Int} (f : frx Fptx M B) : ∀ t : Nat, wtx B k mk t = wtx M k mk t
  | 0 => rfl
  | t + 1 => by
    have wz := wsz_f f (fun c i c0 c1 => by unfold Fptx; omega) k
    simp only [wtx]
    rw [wtx_f (k := k) (mk := mk) f t, wz.2]
theorem c_mkW (hm : rh_ms wm) {k : Int} {M B : rhM} (hk : 0 ≤ k ∧ k < 320) (W : 1 ≤ wsz M k ∧ wsz M k ≤ 12) (N : Nsm M k) (f : frx Fptx M B) {l : List Int} (h : Mox B l) (hl : l.length ≤ 14900) : ∃ B', eC wm YX32_putMarkedWord 2 [(2, 0), (0, k)] B 0 B' ∧ Mox B' (l ++ mkw M k) ∧ frx Fptx M B' := by
  have o1 := h.ad 60
  have o2 := o1.ad 119
  have b1 := apg_ob (c := 60) h.1 ⟨by omega, by omega⟩
  have b2 := apg_ob (c := 119) o1.1 ⟨by omega, by rw [ap1l]; omega⟩
  rw [List.append_assoc] at o2
  have f2 : frx Fptx M (apg 140 177 (apg 140 177 B 60) 119) := (f.tr apg_f).tr apg_f
  have key : ∀ (u i : Nat) (B2 : rhM), i + u = 5 → Mox B2 (l ++ ([60] ++ [119]) ++ nms M k i) → frx Fptx M B2 → ∃ B3, (∀ P : Int → rhM → Prop, rh1 wm YX32_putMarkedWord 2 14 [(0, 2, 0), (1, 0, k), (2, 0, 5)] [] B3 P → rh1 wm YX32_putMarkedWord 2 14 [(0, 2, 0), (1, 0, k), (2, 0, (i : Int))] [] B2 P) ∧ Mox B3 (l ++ ([60] ++ [119]) ++ nms M k 5) ∧ frx Fptx M B3 := by
    intro u
    induction u with
    | zero =>
      intro i B2 hi o2 f2
      have e : i = 5 := by omega
      subst e
      exact ⟨B2, fun P HP => HP, o2, f2⟩
    | succ u ih =>
      intro i B2 hi o2 f2
      have nl := nms_l (M := M) (k := k) i
      have lb : (l ++ ([60] ++ [119]) ++ nms M k i).length ≤ 14950 := by
        rw [List.length_append, List.length_append]
        show l.length + 2 + _ ≤ _
        omega
      have o3 := o2.ad 32
      have fh : frx Fptx M (apg 140 177 B2 32) := f2.tr apg_f
      obtain ⟨B4, E4, o4, f4⟩ := c_putN hm (N i (by omega)) o3 (by rw [ap1l]; omega)
      have ew : l ++ ([60] ++ [119]) ++ nms M k i ++ [32] ++ dg3 (nmv M k i) = l ++ ([60] ++ [119]) ++ nms M k (i + 1) := by
        simp only [nms, List.append_assoc]
      rw [ew] at o4
      obtain ⟨B5, E5, o5, f5⟩ := ih (i + 1) B4 (by omega) o4 (fh.tr f4)
      refine ⟨B5, fun P HP => ?_, o5, f5⟩
      have ob := apg_ob (c := 32) o2.1 ⟨by omega, by omega⟩
      have nx : ∀ P : Int → rhM → Prop, rh1 wm YX32_putMarkedWord 2 14 [(0, 2, 0), (1, 0, k), (2, 0, ((i + 1 : Nat) : Int))] [] B4 P → rh1 wm YX32_putMarkedWord 2 87 [(0, 2, 0), (1, 0, k), (2, 0, (i : Int))] [(0, nmv M k i), (2, 0)] (apg 140 177 B2 32) P := fun P H => by
        refine rh1.s (vX32_putMarkedWord_87 hm E4 (LE0 rfl)) ?_
        refine rh1.of (rX32_putMarkedWord_90 hm _ _ _ ?_)
        exact ⟨⟨by omega, by omega⟩, H⟩
      have nv := nmv_f (k := k) fh i
      have K := nx P (E5 P HP)
      rw [← nv] at K
      refine rh1.of (rX32_putMarkedWord_14 hm _ _ _ ?_)
      have i5 : i = 0 ∨ i = 1 ∨ i = 2 ∨ i = 3 ∨ i = 4 := by omega
      rcases i5 with rfl | rfl | rfl | rfl | rfl
      · refine ⟨fun _ => ⟨ob.1, ob.2, fun _ M3 e3 => ?_, fun z => absurd rfl z⟩, fun z => by omega⟩
        subst e3
        exact ⟨hk, K⟩
      · refine ⟨fun _ => ⟨ob.1, ob.2, fun z => by omega, fun _ => ⟨fun _ M3 e3 => ?_, fun z => absurd rfl z⟩⟩, fun z => by omega⟩
        subst e3
        exact ⟨hk, K⟩
      · refine ⟨fun _ => ⟨ob.1, ob.2, fun z => by omega, fun _ => ⟨fun z => by omega, fun _ => ⟨fun _ M3 e3 => ?_, fun z => absurd rfl z⟩⟩⟩, fun z => by omega⟩
        subst e3
        exact ⟨hk, K⟩
      · refine ⟨fun _ => ⟨ob.1, ob.2, fun z => by omega, fun _ => ⟨fun z => by omega, fun _ => ⟨fun z => by omega, fun _ => ⟨fun _ => hk, fun _ => hk, ?_⟩⟩⟩⟩, fun z => by omega⟩
        rw [rh_if_t (show ((3 : Nat) : Int) = 3 from rfl)]
        exact K
      · refine ⟨fun _ => ⟨ob.1, ob.2, fun z => by omega, fun _ => ⟨fun z => by omega, fun _ => ⟨fun z => by omega, fun _ => ⟨fun _ => hk, fun _ => hk, ?_⟩⟩⟩⟩, fun z => by omega⟩
        rw [rh_if_f (by decide)]
        exact K
  obtain ⟨B3, E3, o3, f3⟩ := key 5 0 _ (by omega) (by simp only [nms]; rw [List.append_nil]; exact o2) f2
  have nl := nms_l (M := M) (k := k) 5
  have lb3 : (l ++ ([60] ++ [119]) ++ nms M k 5).length ≤ 14922 := by
    rw [List.length_append, List.length_append]
    show l.length + 2 + _ ≤ _
    omega
  have o4 := o3.ad 62
  have f4 : frx Fptx M (apg 140 177 B3 62) := f3.tr apg_f
  have b4 := apg_ob (c := 62) o3.1 ⟨by omega, by omega⟩
  obtain ⟨n, hn⟩ : ∃ n : Nat, wsz M k = n := ⟨(wsz M k).toNat, (by omega)⟩
  have wz := wsz_f f4 (fun c i c0 c1 => by unfold Fptx; omega) k
  obtain ⟨B5, E5, o5, f5⟩ := m_mkC hm (k := k) (n := n) hk (by omega) (wz.1.trans hn) (l := l ++ ([60] ++ [119]) ++ nms M k 5 ++ [62]) (by rw [ap1l]; omega) n 0 (apg 140 177 B3 62) (by omega) (by simp only [wtx]; rw [List.append_nil]; exact o4) frx.rf
  have wl := wtx_l (M := apg 140 177 B3 62) (k := k) (mk := 1) n
  obtain ⟨B6, E6, o6, f6⟩ := c_tag1 hm (a := 119) o5 (by rw [List.length_append, ap1l]; omega)
  refine ⟨B6, eC.of1 (rC1.of (by decide) (LE0 rfl) ?_), ?_, (f4.tr f5).tr f6⟩
  · refine rh1.of (rX32_putMarkedWord_0 hm _ _ ?_)
    refine ⟨b1.1, b1.2, fun M3 e3 => ?_⟩
    subst e3
    refine ⟨b2.1, b2.2, E3 _ ?_⟩
    refine rh1.of (rX32_putMarkedWord_14 hm _ _ _ ?_)
    refine ⟨fun z => by omega, fun _ => ⟨b4.1, b4.2, E5 _ ?_⟩⟩
    have wz5 := wsz_f (f4.tr f5) (fun c i c0 c1 => by unfold Fptx; omega) k
    have hw' : rh_if ((B5 123 k) = 1) (B5 128 k) (B5 125 (4 * k)) = n := wz5.1.trans hn
    refine rh1.of (rX32_putMarkedWord_104 hm _ _ _ ?_)
    rw [hw']
    refine ⟨hk, fun _ => hk, fun _ => ⟨by omega, by omega⟩, fun z => by omega, fun _ => ?_⟩
    refine rh1.s (vX32_putMarkedWord_225 hm E6 (LE0 rfl)) ?_
    refine rh1.of (rX32_putMarkedWord_228 hm _ ?_)
    exact ⟨rfl, rfl⟩
  · have e : l ++ ([60] ++ [119]) ++ nms M k 5 ++ [62] ++ wtx (apg 140 177 B3 62) k 1 n ++ [60, 47, 119, 62] = l ++ mkw M k := by
      unfold mkw
      rw [wtx_f f4, hn, Int.toNat_natCast]
      simp only [List.append_assoc, List.cons_append, List.nil_append]
    rw [← e]
    exact o6
end TxtM
