/-! ===== LAYER 2: texts: a word, a marked word ===== -/
section TxtW
variable {wh wm : rhW}
def esc (c : Int) : List Int := if c = 38 then [38, 97, 109, 112, 59] else if c = 60 then [38, 108, 116, 59] else if c = 62 then [38, 103, 116, 59] else [c]
noncomputable def wtx (M : rhM) (k mk : Int) : Nat → List Int
  | 0 => []
  | t + 1 => wtx M k mk t ++ (if mk = 0 then [wch M k t] else esc (wch M k t))
theorem esc_l (c : Int) : (esc c).length ≤ 5 := by
  unfold esc
  by_cases h : c = 38
  · rw [if_pos h]; decide
  rw [if_neg h]
  by_cases h2 : c = 60
  · rw [if_pos h2]; decide
  rw [if_neg h2]
  by_cases h3 : c = 62
  · rw [if_pos h3]; decide
  rw [if_neg h3]; exact (by decide : 1 ≤ 5)
theorem wtx_l {M : rhM} {k mk : Int} : ∀ t : Nat, (wtx M k mk t).length ≤ 5 * t
  | 0 => Nat.le_refl _
  | t + 1 => by
    have := wtx_l (M := M) (k := k) (mk := mk) t
    have e := esc_l (wch M k t)
    simp only [wtx]
    rw [List.length_append]
    by_cases h : mk = 0
    · rw [if_pos h, List.length_singleton]; omega
    · rw [if_neg h]; omega
theorem sk4 : Sok [38, 97, 109, 112, 59] := ⟨by decide +kernel, by decide, by decide⟩
theorem sk5 : Sok [38, 108, 116, 59] := ⟨by decide +kernel, by decide, by decide⟩
theorem sk6 : Sok [38, 103, 116, 59] := ⟨by decide +kernel, by decide, by decide⟩
theorem h_addW (hh : rh_hs wh) {Mh Mm A : rhM} (R : RdA Mh Mm) (Q : RdB Mh Mm) (C : RdC Mh Mm) {r j mk : Int} (hr : 0 ≤ r ∧ r < 4) (hw : Mm 113 r ≠ 0) (hj : 0 ≤ j ∧ j < Mm 114 r) (W : 1 ≤ wsz Mm (80 * r + j) ∧ wsz Mm (80 * r + j) ≤ 12) (f : ∀ c i, 563 ≤ c → A c i = Mh c i) {l : List Int} (h : Hox A l) (hl : l.length ≤ 19000) :
    ∃ A', eC wh YX1_addWord 5 [(2, 0), (2, 563 + 18 * r), (0, j), (0, mk)] A 0 A' ∧ Hox A' (l ++ wtx Mm (80 * r + j) mk (wsz Mm (80 * r + j)).toNat) ∧ frx Fdr A A' := by
  have hx := hs_rd hh hr.1 hr.2
  obtain ⟨b1, b2, b3⟩ := (R r hr.1 hr.2).2 hw
  obtain ⟨x, a, m, hb, xb, ab, hxe, hae, sz, tx⟩ := h_row hh R Q C hr hw hj
  obtain ⟨n, hn⟩ : ∃ n : Nat, wsz Mm (80 * r + j) = n := ⟨(wsz Mm (80 * r + j)).toNat, (by omega)⟩
  rw [hn] at W sz tx
  rw [hn, Int.toNat_natCast]
  have K : eC wh YX31_rowOf 0 [(2, 563 + 18 * r), (0, j)] A (rh_if (A (563 + 18 * r + 11) j = 1) (563 + 18 * r + 12) (563 + 18 * r + 3)) A := (icX31_rowOf hh).eC [563 + 18 * r, j] A rfl (fun q hq => by
    simp only [ikX31_rowOf, List.mem_cons, List.not_mem_nil, or_false] at hq
    subst hq
    exact hx) (by
    intro o ho
    simp only [ioX31_rowOf, List.mem_cons, List.not_mem_nil, or_false] at ho
    subst ho
    exact (show 0 ≤ j ∧ j < 80 from ⟨by omega, by omega⟩))
  have e11 : A (563 + 18 * r + 11) j = Mh (563 + 18 * r + 11) j := f _ _ (by omega)
  have key : ∀ (u t : Nat) (A1 : rhM), t + u = n → Hox A1 (l ++ wtx Mm (80 * r + j) mk t) → frx Fdr A A1 → ∃ A', (∀ P : Int → rhM → Prop, P 0 A' → rh1 wh YX1_addWord 5 17 [(0, 2, 0), (3, 0, mk), (4, 2, x), (5, 0, a), (6, 0, (t : Int))] [] A1 P) ∧ Hox A' (l ++ wtx Mm (80 * r + j) mk n) ∧ frx Fdr A A' := by
    intro u
    induction u with
    | zero =>
      intro t A1 ht ho f1
      have sA : A1 (x + 2) a = n := by rw [f1 _ _ (by unfold Fdr; omega), f _ _ (by omega)]; exact sz
      refine ⟨A1, fun P HP => ?_, by rw [show t = n by omega] at ho; exact ho, f1⟩
      refine rh1.of (rX1_addWord_17 hh _ _ _ _ _ _ hb ?_)
      rw [sA]
      exact ⟨⟨by omega, by omega⟩, fun z => by omega, fun _ => HP⟩
    | succ u ih =>
      intro t A1 ht ho f1
      have sA : A1 (x + 2) a = n := by rw [f1 _ _ (by unfold Fdr; omega), f _ _ (by omega)]; exact sz
      obtain ⟨c, hc⟩ : ∃ c, c = wch Mm (80 * r + j) t := ⟨_, rfl⟩
      have cA : A1 (x + 1) (12 * a + t) = c := by rw [f1 _ _ (by unfold Fdr; omega), f _ _ (by omega), hc]; exact tx t (by omega) (by omega)
      have G := c_get hh (i := a) (k := (t : Int)) hb A1 ⟨by omega, by omega⟩
      rw [cA] at G
      have wl := wtx_l (M := Mm) (k := 80 * r + j) (mk := mk) t
      have lb : (l ++ wtx Mm (80 * r + j) mk t).length ≤ 19060 := by rw [List.length_append]; omega
      have ew : wtx Mm (80 * r + j) mk (t + 1) = wtx Mm (80 * r + j) mk t ++ (if mk = 0 then [c] else esc c) := by rw [hc]; rfl
      have start : ∀ P : Int → rhM → Prop, rh1 wh YX1_addWord 5 39 [(0, 2, 0), (3, 0, mk), (4, 2, x), (5, 0, a), (6, 0, (t : Int))] [(0, c)] A1 P → rh1 wh YX1_addWord 5 17 [(0, 2, 0), (3, 0, mk), (4, 2, x), (5, 0, a), (6, 0, (t : Int))] [] A1 P := fun P HP => by
        refine rh1.of (rX1_addWord_17 hh _ _ _ _ _ _ hb ?_)
        rw [sA]
        exact ⟨⟨by omega, by omega⟩, fun _ => rh1.s (wX1_addWord_36 hb (by decide : 0 < 5) G (LE0 rfl)) HP, fun z => by omega⟩
      have one : (mk = 0 ∨ ¬ (c = 38 ∨ c = 60 ∨ c = 62)) → ∃ A', (∀ P : Int → rhM → Prop, P 0 A' → rh1 wh YX1_addWord 5 17 [(0, 2, 0), (3, 0, mk), (4, 2, x), (5, 0, a), (6, 0, (t : Int))] [] A1 P) ∧ Hox A' (l ++ wtx Mm (80 * r + j) mk n) ∧ frx Fdr A A' := fun hq => by
        have ee : (if mk = 0 then [c] else esc c) = [c] := by
          by_cases z : mk = 0
          · rw [if_pos z]
          · rw [if_neg z]
            have hq2 : ¬ (c = 38 ∨ c = 60 ∨ c = 62) := hq.resolve_left z
            unfold esc
            rw [if_neg (fun q => hq2 (.inl q)), if_neg (fun q => hq2 (.inr (.inl q))), if_neg (fun q => hq2 (.inr (.inr q)))]
        have ho2 := ho.ad c
        rw [List.append_assoc, ← ee, ← ew] at ho2
        obtain ⟨A', E, g1, g2⟩ := ih (t + 1) _ (by omega) ho2 (f1.tr had_f)
        have ob := had_o (c := c) ho.1 ⟨by omega, by omega⟩
        refine ⟨A', fun P HP => start P ?_, g1, g2⟩
        refine rh1.of (rX1_addWord_39 hh _ _ _ _ _ _ _ hb ?_)
        refine ⟨fun z => ⟨fun z2 => ?_, fun _ => ⟨ob.1, ob.2, ⟨by omega, by omega⟩, E P HP⟩⟩, fun _ => ⟨ob.1, ob.2, ⟨by omega, by omega⟩, E P HP⟩⟩
        rcases hq with hq | hq
        · exact absurd hq z
        · exact absurd z2 hq
      by_cases z : mk = 0
      · exact one (.inl z)
      have two : ∀ (i : Nat) (q : String × Nat × String × List Int), rh_st[i]? = some q → Sok q.2.2.2 → esc c = q.2.2.2 → (∀ P : Int → rhM → Prop, rh1 wh YX1_addWord 5 99 [(0, 2, 0), (3, 0, mk), (4, 2, x), (5, 0, a), (6, 0, (t : Int))] [(9, (i : Int)), (2, 4)] A1 P → rh1 wh YX1_addWord 5 39 [(0, 2, 0), (3, 0, mk), (4, 2, x), (5, 0, a), (6, 0, (t : Int))] [(0, c)] A1 P) → ∃ A', (∀ P : Int → rhM → Prop, P 0 A' → rh1 wh YX1_addWord 5 17 [(0, 2, 0), (3, 0, mk), (4, 2, x), (5, 0, a), (6, 0, (t : Int))] [] A1 P) ∧ Hox A' (l ++ wtx Mm (80 * r + j) mk n) ∧ frx Fdr A A' := fun i q hq sk he H => by
        obtain ⟨A2, E2, o2, f2⟩ := c_addS hh hq sk ho (by omega)
        have ee : (if mk = 0 then [c] else esc c) = q.2.2.2 := by rw [if_neg z]; exact he
        rw [List.append_assoc, ← ee, ← ew] at o2
        obtain ⟨A', E, g1, g2⟩ := ih (t + 1) _ (by omega) o2 (f1.tr f2)
        refine ⟨A', fun P HP => start P (H P ?_), g1, g2⟩
        refine rh1.s (wX1_addWord_99 hh (by decide : 4 < 5) E2 (LE0 rfl)) ?_
        refine rh1.of (rX1_addWord_102 hh _ _ _ _ _ _ hb ?_)
        exact ⟨⟨by omega, by omega⟩, E P HP⟩
      by_cases c1 : c = 38
      · refine two 4 ("ReadingHouse", 823, "&amp;", [38, 97, 109, 112, 59]) rfl sk4 (by unfold esc; rw [if_pos c1]) (fun P HP => ?_)
        refine rh1.of (rX1_addWord_39 hh _ _ _ _ _ _ _ hb ?_)
        refine ⟨fun _ => ⟨fun _ => ⟨fun _ => rh1.s wX1_addWord_77 ?_, fun z => absurd c1 z⟩, fun z => absurd (.inl c1) z⟩, fun y => absurd z y⟩
        refine rh1.of (rX1_addWord_80 hh _ _ _ _ _ _ _ hb ?_)
        exact HP
      by_cases c2 : c = 60
      · refine two 5 ("ReadingHouse", 825, "&lt;", [38, 108, 116, 59]) rfl sk5 (by unfold esc; rw [if_neg c1, if_pos c2]) (fun P HP => ?_)
        refine rh1.of (rX1_addWord_39 hh _ _ _ _ _ _ _ hb ?_)
        refine ⟨fun _ => ⟨fun _ => ⟨fun z => absurd z c1, fun _ => ⟨fun _ => rh1.s wX1_addWord_90 ?_, fun z => absurd c2 z⟩⟩, fun z => absurd (.inr (.inl c2)) z⟩, fun y => absurd z y⟩
        refine rh1.of (rX1_addWord_93 hh _ _ _ _ _ _ _ hb ?_)
        exact HP
      by_cases c3 : c = 62
      · refine two 6 ("ReadingHouse", 827, "&gt;", [38, 103, 116, 59]) rfl sk6 (by unfold esc; rw [if_neg c1, if_neg c2, if_pos c3]) (fun P HP => ?_)
        refine rh1.of (rX1_addWord_39 hh _ _ _ _ _ _ _ hb ?_)
        exact ⟨fun _ => ⟨fun _ => ⟨fun z => absurd z c1, fun _ => ⟨fun z => absurd z c2, fun _ => rh1.s wX1_addWord_96 HP⟩⟩, fun z => absurd (.inr (.inr c3)) z⟩, fun y => absurd z y⟩
      · exact one (.inr (fun q => by rcases q with q | q | q; exact c1 q; exact c2 q; exact c3 q))
  obtain ⟨A', E, g1, g2⟩ := key n 0 A (by omega) (by simp only [wtx]; rw [List.append_nil]; exact h) frx.rf
  refine ⟨A', eC.of1 (rC1.of (by decide) (LE0 rfl) ?_), g1, g2⟩
  refine rh1.of (rX1_addWord_0 hh _ _ _ _ hx ?_)
  refine rh1.s (wX1_addWord_2 hx (by decide : 0 < 5) K (LE0 rfl)) ?_
  rw [show rh_if (A (563 + 18 * r + 11) j = 1) (563 + 18 * r + 12) (563 + 18 * r + 3) = x by rw [e11]; exact hxe.symm]
  refine rh1.of (rX1_addWord_5 hh _ _ _ _ _ _ hx hb ?_)
  rw [e11, ← hae]
  refine ⟨⟨by omega, by omega⟩, ⟨by omega, by omega⟩, fun y hy => ?_⟩
  rw [hy]
  exact E _ ⟨rfl, rfl⟩
/-- the numbers of a marked word -/
noncomputable def nmv (M : rhM) (k : Int) (i : Nat) : Int := if i = 0 then M 115 k else if i = 1 then M 116 k else if i = 2 then M 117 k else if i = 3 then M 118 k else M 122 k
noncomputable def nms (M : rhM) (k : Int) : Nat → List Int
  | 0 => []
  | i + 1 => nms M k i ++ ([32] ++ dg3 (nmv M k i))
theorem nms_l {M : rhM} {k : Int} : ∀ i : Nat, (nms M k i).length ≤ 4 * i
  | 0 => Nat.le_refl _
  | i + 1 => by
    have := nms_l (M := M) (k := k) i
    have e := dg3_l (v := nmv M k i)
    simp only [nms]
    rw [List.length_append, List.length_append, List.length_singleton]
    omega
noncomputable def mkw (M : rhM) (k : Int) : List Int := [60, 119] ++ nms M k 5 ++ [62] ++ wtx M k 1 (wsz M k).toNat ++ [60, 47, 119, 62]
theorem mkw_l {M : rhM} {k : Int} (h : wsz M k ≤ 12) : (mkw M k).length ≤ 90 := by
  have h1 := nms_l (M := M) (k := k) 5
  have h2 := wtx_l (M := M) (k := k) (mk := 1) (wsz M k).toNat
  unfold mkw
  simp only [List.length_append, List.length_cons, List.length_nil]
  omega
/-- a word's numbers are small -/
def Nsm (M : rhM) (k : Int) : Prop := ∀ i : Nat, i < 5 → 0 ≤ nmv M k i ∧ nmv M k i ≤ 255
theorem sk3 : Sok [60, 119] := ⟨by decide +kernel, by decide, by decide⟩
theorem sk7 : Sok [60, 47, 119, 62] := ⟨by decide +kernel, by decide, by decide⟩
theorem h_addM (hh : rh_hs wh) {Mh Mm A : rhM} (R : RdA Mh Mm) (Q : RdB Mh Mm) (C : RdC Mh Mm) {r j : Int} (hr : 0 ≤ r ∧ r < 4) (hw : Mm 113 r ≠ 0) (hj : 0 ≤ j ∧ j < Mm 114 r) (W : 1 ≤ wsz Mm (80 * r + j) ∧ wsz Mm (80 * r + j) ≤ 12) (N : Nsm Mm (80 * r + j)) (f : ∀ c i, 563 ≤ c → A c i = Mh c i) {l : List Int} (h : Hox A l) (hl : l.length ≤ 18000) :
    ∃ A', eC wh YX1_addMarked 6 [(2, 0), (2, 563 + 18 * r), (0, j)] A 0 A' ∧ Hox A' (l ++ mkw Mm (80 * r + j)) ∧ frx Fdr A A' := by
  have hx := hs_rd hh hr.1 hr.2
  obtain ⟨b1, b2, b3⟩ := (R r hr.1 hr.2).2 hw
  obtain ⟨⟨x0, x1, x2, x3⟩, xr⟩ := Q r hr.1 hr.2 hw j hj.1 hj.2
  obtain ⟨A1, E1, o1, f1⟩ := c_addS hh (i := 3) (q := ("ReadingHouse", 832, "<w", [60, 119])) rfl sk3 h (by omega)
  -- the numbers
  have key : ∀ (u i : Nat) (A2 : rhM), i + u = 5 → Hox A2 (l ++ [60, 119] ++ nms Mm (80 * r + j) i) → frx Fdr A A2 → ∃ A3, (∀ P : Int → rhM → Prop, rh1 wh YX1_addMarked 6 12 [(0, 2, 0), (1, 2, 563 + 18 * r), (2, 0, j), (3, 0, 5)] [] A3 P → rh1 wh YX1_addMarked 6 12 [(0, 2, 0), (1, 2, 563 + 18 * r), (2, 0, j), (3, 0, (i : Int))] [] A2 P) ∧ Hox A3 (l ++ [60, 119] ++ nms Mm (80 * r + j) 5) ∧ frx Fdr A A3 := by
    intro u
    induction u with
    | zero =>
      intro i A2 hi o2 f2
      have e : i = 5 := by omega
      subst e
      exact ⟨A2, fun P HP => HP, o2, f2⟩
    | succ u ih =>
      intro i A2 hi o2 f2
      have nl := nms_l (M := Mm) (k := 80 * r + j) i
      have lb : (l ++ [60, 119] ++ nms Mm (80 * r + j) i).length ≤ 18050 := by
        rw [List.length_append, List.length_append]
        show l.length + 2 + _ ≤ _
        omega
      have o3 := o2.ad 32
      have lb3 : (l ++ [60, 119] ++ nms Mm (80 * r + j) i ++ [32]).length ≤ 18051 := by rw [List.length_append, List.length_singleton]; omega
      obtain ⟨A4, E4, o4, f4⟩ := c_outN hh (N i (by omega)) o3 (by omega)
      have ew : l ++ [60, 119] ++ nms Mm (80 * r + j) i ++ [32] ++ dg3 (nmv Mm (80 * r + j) i) = l ++ [60, 119] ++ nms Mm (80 * r + j) (i + 1) := by
        simp only [nms, List.append_assoc]
      rw [ew] at o4
      obtain ⟨A5, E5, o5, f5⟩ := ih (i + 1) A4 (by omega) o4 ((f2.tr had_f).tr f4)
      refine ⟨A5, fun P HP => ?_, o5, f5⟩
      have ob := had_o (c := 32) o2.1 ⟨by omega, by omega⟩
      have fh : frx Fdr A (had A2 32) := f2.tr had_f
      have rd : ∀ c k, 563 ≤ c → had A2 32 c k = Mh c k := fun c k hc => by rw [fh _ _ (by unfold Fdr; omega)]; exact f c k hc
      have nx : ∀ P : Int → rhM → Prop, rh1 wh YX1_addMarked 6 12 [(0, 2, 0), (1, 2, 563 + 18 * r), (2, 0, j), (3, 0, ((i + 1 : Nat) : Int))] [] A4 P → rh1 wh YX1_addMarked 6 53 [(0, 2, 0), (1, 2, 563 + 18 * r), (2, 0, j), (3, 0, (i : Int))] [(0, nmv Mm (80 * r + j) i), (2, 4)] (had A2 32) P := fun P H => by
        refine rh1.s (wX1_addMarked_53 hh (by decide : 2 + 2 < 6) E4 (LE0 rfl)) ?_
        refine rh1.of (rX1_addMarked_56 hh _ _ _ _ hx ?_)
        exact ⟨⟨by omega, by omega⟩, H⟩
      refine rh1.of (rX1_addMarked_12 hh _ _ _ _ hx ?_)
      by_cases i4 : i = 4
      · subst i4
        refine ⟨fun _ => ⟨ob.1, ob.2, fun z => by omega, fun _ => ?_⟩, fun z => by omega⟩
        obtain ⟨R', Q', -⟩ := Rd.fx R Q C (M' := had A2 32) (M2' := Mm) (fun c k c0 _ => rd c k c0) (fun _ _ _ _ => rfl)
        have KM := c_margin hh hx (k := 80 * r + j) (i := j) ⟨hj.1, by omega⟩ (((R' r hr.1 hr.2).2 hw).2.2 j hj.1 hj.2) (Q' r hr.1 hr.2 hw j hj.1 hj.2)
        have e4 : nmv Mm (80 * r + j) 4 = Mm 122 (80 * r + j) := rfl
        rw [← e4] at KM
        exact rh1.s (wX1_addMarked_50 hx (by decide : 1 < 6) KM (LE0 rfl)) (nx P (E5 P HP))
      · have ev : Mh (563 + 18 * r + 6) (4 * j + i) = nmv Mm (80 * r + j) i := by
          have i3 : i = 0 ∨ i = 1 ∨ i = 2 ∨ i = 3 := by omega
          rcases i3 with rfl | rfl | rfl | rfl
          · exact x0
          · exact x1
          · exact x2
          · exact x3
        refine ⟨fun _ => ⟨ob.1, ob.2, fun _ M3 e3 => ?_, fun z => by omega⟩, fun z => by omega⟩
        have e4 : M3 = had A2 32 := e3
        rw [e4, rd _ _ (by omega), ev]
        exact ⟨⟨by omega, by omega⟩, nx P (E5 P HP)⟩
  obtain ⟨A3, E3, o3, f3⟩ := key 5 0 A1 (by omega) (by simp only [nms]; rw [List.append_nil]; exact o1) f1
  have o4 := o3.ad 62
  have nl := nms_l (M := Mm) (k := 80 * r + j) 5
  have lb3 : (l ++ [60, 119] ++ nms Mm (80 * r + j) 5).length ≤ 18022 := by
    rw [List.length_append, List.length_append]
    show l.length + 2 + _ ≤ _
    omega
  have lb4 : (l ++ [60, 119] ++ nms Mm (80 * r + j) 5 ++ [62]).length ≤ 18023 := by rw [List.length_append, List.length_singleton]; omega
  have f4 : frx Fdr A (had A3 62) := f3.tr had_f
  obtain ⟨A5, E5, o5, f5⟩ := h_addW hh R Q C (mk := 1) hr hw hj W (A := had A3 62) (fun c i hc => by rw [f4 _ _ (by unfold Fdr; omega)]; exact f c i hc) o4 (by omega)
  have wl := wtx_l (M := Mm) (k := 80 * r + j) (mk := 1) (wsz Mm (80 * r + j)).toNat
  obtain ⟨A6, E6, o6, f6⟩ := c_addS hh (i := 7) (q := ("ReadingHouse", 841, "</w>", [60, 47, 119, 62])) rfl sk7 o5 (by rw [List.length_append]; omega)
  have ob := had_o (c := 62) o3.1 ⟨by omega, by omega⟩
  refine ⟨A6, eC.of1 (rC1.of (by decide) (LE0 rfl) ?_), ?_, (f4.tr f5).tr f6⟩
  · refine rh1.of (rX1_addMarked_0 hh _ _ _ hx ?_)
    refine rh1.s wX1_addMarked_4 ?_
    refine rh1.s (wX1_addMarked_7 hh (by decide : 4 < 6) E1 (LE0 rfl)) ?_
    refine rh1.of (rX1_addMarked_10 hh _ _ _ hx ?_)
    refine E3 _ ?_
    refine rh1.of (rX1_addMarked_12 hh _ _ _ _ hx ?_)
    refine ⟨fun z => by omega, fun _ => ⟨ob.1, ob.2, ?_⟩⟩
    refine rh1.s (wX1_addMarked_75 hh (by decide : 5 < 6) E5 (LE0 rfl)) ?_
    refine rh1.of (rX1_addMarked_78 hh _ ?_)
    refine rh1.s wX1_addMarked_82 ?_
    refine rh1.s (wX1_addMarked_85 hh (by decide : 4 < 6) E6 (LE0 rfl)) ?_
    refine rh1.of (rX1_addMarked_88 hh _ ?_)
    exact ⟨rfl, rfl⟩
  · have e : l ++ [60, 119] ++ nms Mm (80 * r + j) 5 ++ [62] ++ wtx Mm (80 * r + j) 1 (wsz Mm (80 * r + j)).toNat ++ [60, 47, 119, 62] = l ++ mkw Mm (80 * r + j) := by
      unfold mkw
      simp only [List.append_assoc]
    rw [← e]
    exact o6
end TxtW
