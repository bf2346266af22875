/-! ===== LAYER 2: op save ===== -/
section SaveQ
variable {wh wm : rhW}
def Fsa (c j : Int) : Prop := (c = 233 ∧ (j = 2 ∨ j = 3)) ∨ c = 234 ∨ c = 235 ∨ (c = 4 ∧ j = 3) ∨ c = 6
def Gsa (c j : Int) : Prop := (c = 0 ∧ (j = 0 ∨ j = 177 ∨ j = 252 ∨ j = 253 ∨ j = 256)) ∨ c = 140 ∨ c = 196 ∨ c = 197
theorem Rst.fr {Mh Mm A B : rhM} (R : Rst Mh Mm) (hA : ∀ c j, (c = 233 ∨ c = 234 ∨ c = 235) → A c j = Mh c j) (hB : ∀ c j, (c = 196 ∨ c = 197 ∨ (c = 0 ∧ 252 ≤ j)) → B c j = Mm c j) : Rst A B := by
  have e1 : A 233 = Mh 233 := funext (fun j => hA 233 j (by decide))
  have e2 : A 234 = Mh 234 := funext (fun j => hA 234 j (by decide))
  have e3 : A 235 = Mh 235 := funext (fun j => hA 235 j (by decide))
  have g1 : B 196 = Mm 196 := funext (fun j => hB 196 j (.inl rfl))
  have g2 : B 197 = Mm 197 := funext (fun j => hB 197 j (.inr (.inl rfl)))
  unfold Rst at R ⊢
  rw [e1, e2, e3, g1, g2, hB 0 252 (by decide), hB 0 253 (by decide), hB 0 256 (by decide)]
  exact R
theorem sv_fin (hm : rh_ms wm) {Mh Mm A B1 : rhM} {kd : Int} {l : List Int} (R : Rst Mh Mm) (al : Al l) (hk : 0 ≤ kd ∧ kd ≤ 255) (hl : l.length ≤ 16000) (rm : Rmo (Mm 0 252) (Mm 0 253) kd l.length) (H : Hrw Mh Mm A kd l) (o : Mox B1 l) (f1 : frx Fptx Mm B1) : ∃ B', (∀ P : Int → rhM → Prop, P (Mm 0 252) B' → rh1 wm YX32_save 4 273 [(0, 2, 0), (3, 0, Mm 0 253), (4, 0, 0)] [] (mhd B1 (Mm 0 252) (Mm 0 253) kd l.length) P) ∧ Rst A B' ∧ frx Fsa Mh A ∧ frx Gsa Mm B' := by
  obtain ⟨⟨r1, r2, r3⟩, r4, r5, r6⟩ := h_room R
  obtain ⟨m1, m2, m3⟩ := rm
  obtain ⟨a1, a2, a3, a4, fA⟩ := H
  have b52 : B1 0 252 = Mm 0 252 := f1 _ _ (by unfold Fptx; omega)
  have b53 : B1 0 253 = Mm 0 253 := f1 _ _ (by unfold Fptx; omega)
  obtain ⟨B', E, b1, b2, b3, b4, b5, b6, gB⟩ := m_stor hm o al hk b52 b53 ⟨r2, m1⟩ r5 hl m3
  have gB' : frx (fun c j => Fptx c j ∨ Gsv (Mm 0 252) (Mm 0 253) c j) Mm B' := (f1.w (fun c j h => .inl h)).tr (gB.w (fun c j h => .inr h))
  refine ⟨B', E, ?_, fA.w (fun c j h => by unfold Fsw Fsv Fdr at h; unfold Fsa; omega), gB'.w (fun c j h => by unfold Fptx Gsv at h; unfold Gsa; omega)⟩
  exact Rst_new R al hk hl rfl rfl m1 m3 a1 a2 a3 a4 fA (fun c j h => by unfold Fsw Fsv Fdr at h; omega) b1 b2 b3 b4 b5 b6 gB' (fun c j h => by unfold Fptx Gsv at h; omega)
theorem op_save (hh : rh_hs wh) (hm : rh_ms wm) {Mh Mm : rhM} (S : Rst Mh Mm) (RP : Rpg Mh Mm) (F : Rfm Mh Mm) (R : RdA Mh Mm) (Q : RdB Mh Mm) (C : RdC Mh Mm) (O : RdO Mm) (x1 x2 : Int) : rC2 wh YX1_save 9 [(2, 0), (0, x1), (0, x2)] Mh wm YX32_save 4 [(2, 0), (0, x1), (0, x2)] Mm (fun r M' r2 M2' => r = r2 ∧ Rst M' M2' ∧ frx Fsa Mh M' ∧ frx Gsa Mm M2') := by
  have g0 : frx Gsa Mm (rh_set Mm 0 0 0) := frx.rf.st (by unfold Gsa; omega)
  have f00 : frx Fptx Mm (rh_set Mm 0 0 0) := frx.rf.st (by unfold Fptx; omega)
  have S0 : Rst Mh (rh_set Mm 0 0 0) := S.fr (fun _ _ _ => rfl) (fun c j h => f00 _ _ (by unfold Fptx; omega))
  obtain ⟨⟨r1, r2, r3⟩, r4, r5, r6⟩ := h_room S
  have Sfr : ∀ A B : rhM, frx Fdr Mh A → frx Fptx Mm B → Rst A B := fun A B fA fB => S.fr (fun c j h => fA _ _ (by unfold Fdr; omega)) (fun c j h => fB _ _ (by unfold Fptx; omega))
  by_cases k : (0 ≤ x1) ∧ (x1 ≤ 2)
  case neg =>
    refine ⟨-102, Mh, -102, rh_set Mm 0 0 0, eC.of1 (rC1.of (by decide) (LE0 rfl) ?_), eC.of1 (rC1.of (by decide) (LE0 rfl) ?_), rfl, S0, frx.rf, g0⟩
    · refine rh1.of (rX1_save_0 hh _ _ _ ?_)
      exact ⟨fun _ => ⟨rfl, rfl⟩, fun z => absurd k z⟩
    · refine rh1.of (rX32_save_0 hm _ _ _ ?_)
      exact ⟨fun _ => ⟨rfl, rfl⟩, fun z => absurd k z⟩
  have x3 : x1 = 0 ∨ x1 = 1 ∨ x1 = 2 := by omega
  have w4 : ∀ x, rh_set Mm 0 0 0 4 x = Mm 4 x := fun x => rh_set_a (by decide)
  have w113 : ∀ x, rh_set Mm 0 0 0 113 x = Mm 113 x := fun x => rh_set_a (by decide)
  rcases x3 with rfl | rfl | rfl
  · -- a page
    by_cases pg : ((0 ≤ x2) ∧ (x2 ≤ 7)) ∧ 0 < Mm 4 x2
    case neg =>
      refine ⟨-101, Mh, -101, rh_set Mm 0 0 0, eC.of1 (rC1.of (by decide) (LE0 rfl) ?_), eC.of1 (rC1.of (by decide) (LE0 rfl) ?_), rfl, S0, frx.rf, g0⟩
      · refine rh1.of (rX1_save_0 hh _ _ _ ?_)
        refine ⟨fun z => absurd k z, fun _ => ⟨fun _ => ⟨fun _ => ⟨by omega, by omega⟩, fun _ => ⟨rfl, rfl⟩, fun z => absurd ?_ pg⟩, fun z => absurd rfl z⟩⟩
        have z := Classical.not_not.mp z
        exact ⟨z.1, (RP x2 z.1.1 (by omega)).2.mp z.2⟩
      · refine rh1.of (rX32_save_0 hm _ _ _ ?_)
        rw [w4]
        exact ⟨fun z => absurd k z, fun _ => ⟨fun _ => ⟨fun _ => ⟨by omega, by omega⟩, fun _ => ⟨rfl, rfl⟩, fun z => absurd (Classical.not_not.mp z) pg⟩, fun z => absurd rfl z⟩⟩
    have hx : 0 ≤ x2 ∧ x2 < 8 := ⟨by omega, by omega⟩
    obtain ⟨⟨a1, a2, a3, a4, a5, a6, a7, a8, a9, a10⟩, ab⟩ := RP x2 hx.1 hx.2
    obtain ⟨N, hN⟩ : ∃ N : Nat, Mm 4 x2 * Mm 5 x2 = N := ⟨(Mm 4 x2 * Mm 5 x2).toNat, (by omega)⟩
    have hN6 : N ≤ 6144 := by omega
    have pgh : ((0 ≤ x2) ∧ (x2 ≤ 7)) ∧ Mh (251 + 39 * x2) 3 ≠ 0 := ⟨pg.1, ab.mpr pg.2⟩
    obtain ⟨l, hl⟩ : ∃ l, l = [Mm 4 x2] ++ [Mm 5 x2] ++ grl Mm x2 N := ⟨_, rfl⟩
    have ll : l.length = 2 + N := by
      rw [hl, List.length_append, List.length_append, grl_l]
      rfl
    have lI : ((l.length : Nat) : Int) = 2 + N := by omega
    have al : Al l := by
      rw [hl]
      exact ((Al.one ⟨a3, by omega⟩).ap (Al.one ⟨a5, by omega⟩)).ap (Al.gr N (fun i hi => (a10 i (by omega) (by omega)).2))
    -- the model
    have b4 : rh_set Mm 0 0 0 4 x2 * rh_set Mm 0 0 0 5 x2 = N := by rw [rh_set_a (by decide), rh_set_a (by decide)]; exact hN
    obtain ⟨B1, E1, o1, f1⟩ := m_page hm (B := rh_set Mm 0 0 0) hx b4 hN6
    have eg : grl (rh_set Mm 0 0 0) x2 N = grl Mm x2 N := by
      have : ∀ j : Nat, grl (rh_set Mm 0 0 0) x2 j = grl Mm x2 j := by
        intro j
        induction j with
        | zero => rfl
        | succ j ih => simp only [grl]; rw [ih, rh_set_a (by decide)]
      exact this N
    rw [eg, rh_set_a (by decide), rh_set_a (by decide), ← hl] at o1
    have f1' : frx Fptx Mm B1 := f00.tr f1
    have o0 : Mox (rh_set (rh_set Mm 0 0 0) 0 177 0) [] := ⟨rh_set_s _ _ _ _, fun k k0 => absurd k0 (Nat.not_lt_zero _)⟩
    have ob1 := apg_ob (c := rh_set (rh_set Mm 0 0 0) 0 177 0 4 x2) o0.1 (by decide)
    have o01 := o0.ad (rh_set (rh_set Mm 0 0 0) 0 177 0 4 x2)
    have ob2 := apg_ob (c := apg 140 177 (rh_set (rh_set Mm 0 0 0) 0 177 0) (rh_set (rh_set Mm 0 0 0) 0 177 0 4 x2) 5 x2) o01.1 (show (0 : Int) ≤ 1 ∧ (1 : Int) < 16000 by decide)
    have MS : ∀ P : Int → rhM → Prop, (¬ Rmo (Mm 0 252) (Mm 0 253) 0 l.length → P (-104) B1) → (Rmo (Mm 0 252) (Mm 0 253) 0 l.length → rh1 wm YX32_save 4 273 [(0, 2, 0), (3, 0, Mm 0 253), (4, 0, 0)] [] (mhd B1 (Mm 0 252) (Mm 0 253) 0 l.length) P) → rh1 wm YX32_save 4 0 (rh_lo 0 [(2, 0), (0, 0), (0, x2)]) [] Mm P := fun P h1 h2 => by
      have K := E1 P (m_tl113 hm (kd := 0) (x := x2) (N := (N : Int)) o1 hx (by rw [f1' _ _ (by unfold Fptx; omega), f1' _ _ (by unfold Fptx; omega)]; exact hN) ⟨by omega, by omega⟩ (f1' _ _ (by unfold Fptx; omega)) (f1' _ _ (by unfold Fptx; omega)) ⟨r2, r3⟩ ⟨r5, r6⟩ (by omega) P h1 h2)
      refine rh1.of (rX32_save_0 hm _ _ _ ?_)
      rw [w4]
      refine ⟨fun z => absurd k z, fun _ => ⟨fun _ => ⟨fun _ => ⟨by omega, by omega⟩, fun z => absurd pg z, fun _ => ⟨fun z => by omega, fun _ => ⟨fun _ M3 e3 => ?_, fun z => absurd rfl z⟩⟩⟩, fun z => absurd rfl z⟩⟩
      subst e3
      refine ⟨hx, ob1.1, ob1.2, fun M4 e4 => ?_⟩
      subst e4
      refine ⟨hx, ob2.1, ob2.2, ?_⟩
      have e5 : rh_set (rh_set Mm 0 0 0) 0 177 0 4 x2 = rh_set Mm 0 0 0 4 x2 := rh_set_a (by decide)
      have e6 : apg 140 177 (rh_set (rh_set Mm 0 0 0) 0 177 0) (rh_set (rh_set Mm 0 0 0) 0 177 0 4 x2) 5 x2 = rh_set Mm 0 0 0 5 x2 := by
        rw [apg_f _ _ (by unfold Fptx; omega), rh_set_a (by decide)]
      show rh1 wm YX32_save 4 113 [(0, 2, 0), (1, 0, 0), (2, 0, x2), (3, 0, 0)] [] (apg 140 177 (apg 140 177 (rh_set (rh_set Mm 0 0 0) 0 177 0) (rh_set (rh_set Mm 0 0 0) 0 177 0 4 x2)) (apg 140 177 (rh_set (rh_set Mm 0 0 0) 0 177 0) (rh_set (rh_set Mm 0 0 0) 0 177 0 4 x2) 5 x2)) P
      rw [e6, e5]
      exact K
    have HS : ∀ (r : Int) (A : rhM), eC wh YX1_savePage 3 [(2, 0), (2, 251 + 39 * x2)] Mh r A → eC wh YX1_save 9 [(2, 0), (0, 0), (0, x2)] Mh r A := fun r A E => eC.of1 (rC1.of (by decide) (LE0 rfl) (by
      refine rh1.of (rX1_save_0 hh _ _ _ ?_)
      refine ⟨fun z => absurd k z, fun _ => ⟨fun _ => ⟨fun _ => ⟨by omega, by omega⟩, fun z => absurd pgh z, fun _ => ⟨fun _ => ⟨hx, rh1.s (vX1_save_67 hh E (LE0 rfl)) ?_⟩, fun z => absurd rfl z⟩⟩, fun z => absurd rfl z⟩⟩
      refine rh1.of (rX1_save_70 hh _ _ ?_)
      exact ⟨rfl, rfl⟩))
    by_cases rm : Rmo (Mm 0 252) (Mm 0 253) 0 l.length
    · have rm' := rm
      obtain ⟨m1, -, m3⟩ := rm
      rw [lI] at m3
      obtain ⟨A, EA, q1, q2, q3, q4, fA⟩ := h_page hh S RP hx hN m1 m3
      have H : Hrw Mh Mm A 0 l := by
        unfold Hrw
        rw [lI, hl]
        exact ⟨q1, q2, q3, q4, fA.w (fun c j h => .inl h)⟩
      obtain ⟨B', E', RR, fF, gG⟩ := sv_fin hm S al (by decide) (by omega) rm' H o1 f1'
      exact ⟨_, A, _, B', HS _ _ EA, eC.of1 (rC1.of (by decide) (LE0 rfl) (MS _ (fun z => absurd rm' z) (fun _ => E' _ ⟨rfl, rfl⟩))), rfl, RR, fF, gG⟩
    · refine ⟨-104, Mh, -104, B1, HS _ _ (eC.of1 (rC1.of (by decide) (LE0 rfl) ?_)), eC.of1 (rC1.of (by decide) (LE0 rfl) (MS _ (fun _ => ⟨rfl, rfl⟩) (fun z => absurd z rm))), rfl, Sfr _ _ frx.rf f1', frx.rf, f1'.w (fun c j h => by unfold Fptx at h; unfold Gsa; omega)⟩
      have blp := hs_pg hh hx.1 hx.2
      refine rh1.of (rX1_savePage_0 hh _ _ blp ?_)
      rw [a1, a2, hN, r1, r4]
      refine ⟨⟨by omega, by omega⟩, fun y hy => ?_⟩
      rw [hy]
      refine ⟨⟨by omega, by omega⟩, fun _ => ⟨by omega, by omega⟩, fun _ => ⟨by omega, by omega⟩, fun _ => ⟨rfl, rfl⟩, fun z => absurd ?_ rm⟩
      have z := Classical.not_not.mp z
      exact ⟨z.1, fun z => absurd z (by decide), by omega⟩
  · -- a reading
    by_cases pg : ((0 ≤ x2) ∧ (x2 ≤ 3)) ∧ Mm 113 x2 ≠ 0
    case neg =>
      refine ⟨-101, Mh, -101, rh_set Mm 0 0 0, eC.of1 (rC1.of (by decide) (LE0 rfl) ?_), eC.of1 (rC1.of (by decide) (LE0 rfl) ?_), rfl, S0, frx.rf, g0⟩
      · refine rh1.of (rX1_save_0 hh _ _ _ ?_)
        refine ⟨fun z => absurd k z, fun _ => ⟨fun z => by omega, fun _ => ⟨fun _ => ⟨⟨by omega, by omega⟩, fun _ => ⟨by omega, by omega⟩, fun _ => ⟨rfl, rfl⟩, fun z => absurd ?_ pg⟩, fun z => absurd rfl z⟩⟩⟩
        have z := Classical.not_not.mp z
        exact ⟨⟨by omega, by omega⟩, (R x2 z.1.1 (by omega)).1.mp z.2⟩
      · refine rh1.of (rX32_save_0 hm _ _ _ ?_)
        rw [w113]
        exact ⟨fun z => absurd k z, fun _ => ⟨fun z => by omega, fun _ => ⟨fun _ => ⟨fun _ => ⟨by omega, by omega⟩, fun _ => ⟨rfl, rfl⟩, fun z => absurd (Classical.not_not.mp z) pg⟩, fun z => absurd rfl z⟩⟩⟩
    have hr : 0 ≤ x2 ∧ x2 < 4 := ⟨by omega, by omega⟩
    have hw := pg.2
    have hw0 : Mh (563 + 18 * x2) 0 ≠ 0 := (R x2 hr.1 hr.2).1.mpr hw
    obtain ⟨W, SB, NS⟩ := Rd_txt R Q C O hr hw
    obtain ⟨-, b2, -⟩ := (R x2 hr.1 hr.2).2 hw
    obtain ⟨N, hN⟩ : ∃ N : Nat, Mm 114 x2 = N := ⟨(Mm 114 x2).toNat, (by omega)⟩
    rw [hN] at W SB NS b2
    obtain ⟨A, EA, oA, fA⟩ := h_write hh R Q C (mk := 1) hr hw hN W NS (A := Mh) (fun _ _ _ => rfl)
    obtain ⟨B1, E1, o1, f1⟩ := c_marked hm (M := Mm) hr (by omega) hN W NS SB f00
    obtain ⟨l, hl⟩ : ∃ l, l = htx Mm x2 N 1 N := ⟨_, rfl⟩
    have ln := htx_l (M := Mm) (r := x2) (N := N) (mk := 1) (fun i i0 i1 => (W i i0 i1).1.2) N (by omega)
    have al := Al.ht (mk := 1) W N (by omega)
    rw [← hl] at oA o1 ln al
    have MS : ∀ P : Int → rhM → Prop, (¬ Rmo (Mm 0 252) (Mm 0 253) 1 l.length → P (-104) B1) → (Rmo (Mm 0 252) (Mm 0 253) 1 l.length → rh1 wm YX32_save 4 273 [(0, 2, 0), (3, 0, Mm 0 253), (4, 0, 0)] [] (mhd B1 (Mm 0 252) (Mm 0 253) 1 l.length) P) → rh1 wm YX32_save 4 0 (rh_lo 0 [(2, 0), (0, 1), (0, x2)]) [] Mm P := fun P h1 h2 => by
      refine rh1.of (rX32_save_0 hm _ _ _ ?_)
      rw [w113]
      refine ⟨fun z => absurd k z, fun _ => ⟨fun z => by omega, fun _ => ⟨fun _ => ⟨fun _ => ⟨by omega, by omega⟩, fun z => absurd pg z, fun _ => ⟨fun z => by omega, fun _ => ⟨fun z => by omega, fun _ => ⟨fun _ => rh1.s (vX32_save_162 hm E1 (LE0 rfl)) ?_, fun z => absurd rfl z⟩⟩⟩⟩, fun z => absurd rfl z⟩⟩⟩
      exact m_tl165 hm o1 (f1 _ _ (by unfold Fptx; omega)) (f1 _ _ (by unfold Fptx; omega)) ⟨r2, r3⟩ ⟨r5, r6⟩ (by omega) P h1 h2
    have HS : ∀ (r : Int) (X : rhM), eC wh YX1_saveReading 8 [(2, 0), (2, 563 + 18 * x2)] Mh r X → eC wh YX1_save 9 [(2, 0), (0, 1), (0, x2)] Mh r X := fun r X E => eC.of1 (rC1.of (by decide) (LE0 rfl) (by
      refine rh1.of (rX1_save_0 hh _ _ _ ?_)
      refine ⟨fun z => absurd k z, fun _ => ⟨fun z => by omega, fun _ => ⟨fun _ => ⟨⟨by omega, by omega⟩, fun _ => ⟨by omega, by omega⟩, fun z => absurd ⟨⟨by omega, by omega⟩, hw0⟩ z, fun _ => ⟨fun z => by omega, fun _ => ⟨fun _ => ⟨hr, rh1.s (vX1_save_85 hh E (LE0 rfl)) ?_⟩, fun z => absurd rfl z⟩⟩⟩, fun z => absurd rfl z⟩⟩⟩
      refine rh1.of (rX1_save_88 hh _ _ ?_)
      exact ⟨rfl, rfl⟩))
    obtain ⟨H1, H2⟩ := h_rdg hh S hr EA oA al (by omega) fA
    by_cases rm : Rmo (Mm 0 252) (Mm 0 253) 1 l.length
    · obtain ⟨A', E', H⟩ := H2 rm
      obtain ⟨B', EB, RR, fF, gG⟩ := sv_fin hm S al (by decide) (by omega) rm H o1 f1
      exact ⟨_, A', _, B', HS _ _ E', eC.of1 (rC1.of (by decide) (LE0 rfl) (MS _ (fun z => absurd rm z) (fun _ => EB _ ⟨rfl, rfl⟩))), rfl, RR, fF, gG⟩
    · exact ⟨-104, A, -104, B1, HS _ _ (H1 rm), eC.of1 (rC1.of (by decide) (LE0 rfl) (MS _ (fun _ => ⟨rfl, rfl⟩) (fun z => absurd z rm))), rfl, Sfr _ _ fA f1, fA.w (fun c j h => by unfold Fdr at h; unfold Fsa; omega), f1.w (fun c j h => by unfold Fptx at h; unfold Gsa; omega)⟩
  · -- a face
    by_cases pg : (0 ≤ x2) ∧ (x2 ≤ 3)
    case neg =>
      refine ⟨-101, Mh, -101, rh_set Mm 0 0 0, eC.of1 (rC1.of (by decide) (LE0 rfl) ?_), eC.of1 (rC1.of (by decide) (LE0 rfl) ?_), rfl, S0, frx.rf, g0⟩
      · refine rh1.of (rX1_save_0 hh _ _ _ ?_)
        exact ⟨fun z => absurd k z, fun _ => ⟨fun z => by omega, fun _ => ⟨fun z => by omega, fun _ => ⟨fun _ => ⟨rfl, rfl⟩, fun z => absurd pg z⟩⟩⟩⟩
      · refine rh1.of (rX32_save_0 hm _ _ _ ?_)
        exact ⟨fun z => absurd k z, fun _ => ⟨fun z => by omega, fun _ => ⟨fun z => by omega, fun _ => ⟨fun _ => ⟨rfl, rfl⟩, fun z => absurd pg z⟩⟩⟩⟩
    obtain ⟨s1, s2, s3⟩ := F
    obtain ⟨N, hN⟩ : ∃ N : Nat, Mm 0 89 = N := ⟨(Mm 0 89).toNat, (by omega)⟩
    obtain ⟨H1, H2, H3⟩ := h_face hh S ⟨s1, s2, s3⟩ (face := x2) hN
    obtain ⟨l, hl⟩ : ∃ l, l = fcl Mm x2 N := ⟨_, rfl⟩
    rw [← hl] at H1 H2 H3
    have fl := fcl_l (M := Mm) (face := x2) N
    have cb := ctp_b (fun i => Mm 63 i = x2) N
    rw [← hl] at fl
    have al : Al l := by
      rw [hl]
      refine Al.fc (fun j hj => ?_)
      obtain ⟨-, t2, -, -, -, t6, -⟩ := s3 j (by omega) (by omega)
      exact ⟨⟨by omega, by omega⟩, fun k hk => (t6 k (by omega) (by omega)).2⟩
    have HS : ∀ (r : Int) (X : rhM), eC wh YX1_saveFace 3 [(2, 0), (0, x2)] Mh r X → eC wh YX1_save 9 [(2, 0), (0, 2), (0, x2)] Mh r X := fun r X E => eC.of1 (rC1.of (by decide) (LE0 rfl) (by
      refine rh1.of (rX1_save_0 hh _ _ _ ?_)
      refine ⟨fun z => absurd k z, fun _ => ⟨fun z => by omega, fun _ => ⟨fun z => by omega, fun _ => ⟨fun z => absurd pg z, fun _ => ⟨fun z => by omega, fun _ => ⟨fun z => by omega, fun _ => rh1.s (vX1_save_93 hh E (LE0 rfl)) ?_⟩⟩⟩⟩⟩⟩
      refine rh1.of (rX1_save_96 hh _ _ ?_)
      exact ⟨rfl, rfl⟩))
    have e89 : rh_set Mm 0 0 0 0 89 = N := (rh_set_j (by decide)).trans hN
    have EC := c_faceForms hm (fc := Mm 63) (face := x2) (rh_set Mm 0 0 0) e89 (by omega) (fun f f0 f1 => rh_set_a (by decide))
    obtain ⟨B1, E1, o1, f1⟩ := m_face hm (B := rh_set Mm 0 0 0) (face := x2) e89 (by omega)
    have eg : fcl (rh_set Mm 0 0 0) x2 N = fcl Mm x2 N := by
      have e1 : ∀ (f : Int) (j : Nat), ftl (rh_set Mm 0 0 0) f j = ftl Mm f j := by
        intro f j
        induction j with
        | zero => rfl
        | succ j ih => simp only [ftl]; rw [ih, rh_set_a (by decide)]
      have : ∀ j : Nat, fcl (rh_set Mm 0 0 0) x2 j = fcl Mm x2 j := by
        intro j
        induction j with
        | zero => rfl
        | succ j ih => simp only [fcl]; rw [ih, e1, rh_set_a (by decide), rh_set_a (by decide)]
      exact this N
    rw [eg, ← hl] at o1
    have f1' : frx Fptx Mm B1 := f00.tr f1
    have MS : ∀ P : Int → rhM → Prop, (l = [] → P (-103) (rh_set Mm 0 0 0)) → (l ≠ [] → ¬ Rmo (Mm 0 252) (Mm 0 253) 2 l.length → P (-104) B1) → (l ≠ [] → Rmo (Mm 0 252) (Mm 0 253) 2 l.length → rh1 wm YX32_save 4 273 [(0, 2, 0), (3, 0, Mm 0 253), (4, 0, 0)] [] (mhd B1 (Mm 0 252) (Mm 0 253) 2 l.length) P) → rh1 wm YX32_save 4 0 (rh_lo 0 [(2, 0), (0, 2), (0, x2)]) [] Mm P := fun P h0 h1 h2 => by
      refine rh1.of (rX32_save_0 hm _ _ _ ?_)
      refine ⟨fun z => absurd k z, fun _ => ⟨fun z => by omega, fun _ => ⟨fun z => by omega, fun _ => ⟨fun z => absurd pg z, fun _ => ⟨fun _ => rh1.s (vX32_save_73 hm EC (LE0 rfl)) ?_, fun z => absurd rfl z⟩⟩⟩⟩⟩
      refine rh1.of (rX32_save_76 hm _ _ _ _ ?_)
      refine ⟨fun z => h0 (List.eq_nil_of_length_eq_zero (by omega)), fun z => ⟨fun y => by omega, fun _ => ⟨fun y => by omega, fun _ => rh1.s (vX32_save_170 hm E1 (LE0 rfl)) ?_⟩⟩⟩
      have ne : l ≠ [] := fun e => by rw [e] at fl; have : (0 : Int) = 20 * ctp (fun i => Mm 63 i = x2) N := fl; omega
      exact m_tl173 hm o1 (f1' _ _ (by unfold Fptx; omega)) (f1' _ _ (by unfold Fptx; omega)) ⟨r2, r3⟩ ⟨r5, r6⟩ (by omega) P (h1 ne) (h2 ne)
    by_cases le : l = []
    · exact ⟨-103, Mh, -103, rh_set Mm 0 0 0, HS _ _ (H1 le), eC.of1 (rC1.of (by decide) (LE0 rfl) (MS _ (fun _ => ⟨rfl, rfl⟩) (fun z => absurd le z) (fun z => absurd le z))), rfl, S0, frx.rf, g0⟩
    by_cases rm : Rmo (Mm 0 252) (Mm 0 253) 2 l.length
    · obtain ⟨A', E', H⟩ := H3 le rm
      obtain ⟨B', EB, RR, fF, gG⟩ := sv_fin hm S al (by decide) (by omega) rm H o1 f1'
      exact ⟨_, A', _, B', HS _ _ E', eC.of1 (rC1.of (by decide) (LE0 rfl) (MS _ (fun z => absurd z le) (fun _ z => absurd rm z) (fun _ _ => EB _ ⟨rfl, rfl⟩))), rfl, RR, fF, gG⟩
    · exact ⟨-104, Mh, -104, B1, HS _ _ (H2 le rm), eC.of1 (rC1.of (by decide) (LE0 rfl) (MS _ (fun z => absurd z le) (fun _ _ => ⟨rfl, rfl⟩) (fun _ z => absurd z rm))), rfl, Sfr _ _ frx.rf f1', frx.rf, f1'.w (fun c j h => by unfold Fptx at h; unfold Gsa; omega)⟩
end SaveQ
