/-! ===== LAYER 2: learn, the operation; a part comes to hand ===== -/
section LearnO
variable {wh wm : rhW}
theorem Rfm.fx {Mh Mm Mh' Mm' : rhM} (R : Rfm Mh Mm) (h : ∀ c : Int, 41 ≤ c → c ≤ 48 → Mh' c = Mh c) (g0 : Mm' 0 89 = Mm 0 89) (g : ∀ c : Int, 63 ≤ c → c ≤ 69 → Mm' c = Mm c) : Rfm Mh' Mm' := by
  unfold Rfm FmR at R ⊢
  rw [h 41 (by omega) (by omega), h 42 (by omega) (by omega), h 43 (by omega) (by omega), h 44 (by omega) (by omega), h 45 (by omega) (by omega), h 46 (by omega) (by omega), h 47 (by omega) (by omega), h 48 (by omega) (by omega), g0, g 63 (by omega) (by omega), g 64 (by omega) (by omega), g 65 (by omega) (by omega), g 66 (by omega) (by omega), g 67 (by omega) (by omega), g 68 (by omega) (by omega), g 69 (by omega) (by omega)]
  exact R
theorem Pwd.fm {Mh Mm M' M2' : rhM} (R : Rfm Mh Mm) (P : Pwd Mh Mm M' M2') : Rfm M' M2' := by
  obtain ⟨f, g⟩ := P
  refine R.fx (fun c c0 c1 => f.cell (fun j => by unfold Fpr; omega)) (g _ _ (by unfold Gpr Giw Gcl; omega)) (fun c c0 c1 => g.cell (fun j => by unfold Gpr Giw Gcl; omega))
/-- laidWord, prepare, hasPart: what learn, candidate and the like begin with -/
def Phd (Mh Mm M' M2' : rhM) : Prop := frx (fun c j => Fpr c j ∨ c = 25 ∨ c = 31 ∨ c = 32) Mh M' ∧ frx (fun c j => (c = 0 ∧ (j = 0 ∨ (84 ≤ j ∧ j ≤ 87))) ∨ Gpr c j ∨ c = 62) Mm M2'
/-- what learn leaves -/
def Plrn (Mh Mm M' M2' : rhM) : Prop := Rfm M' M2' ∧ frx (fun c j => (25 ≤ c ∧ c ≤ 32) ∨ (41 ≤ c ∧ c ≤ 48)) Mh M' ∧ frx (fun c j => (c = 0 ∧ (j = 0 ∨ (17 ≤ j ∧ j ≤ 89))) ∨ (9 ≤ c ∧ c ≤ 11) ∨ (15 ≤ c ∧ c ≤ 22) ∨ (56 ≤ c ∧ c ≤ 69)) Mm M2'
theorem Pwd.lrn {Mh Mm M' M2' : rhM} (R : Rfm Mh Mm) (P : Pwd Mh Mm M' M2') : Plrn Mh Mm M' M2' := by
  refine ⟨P.fm R, P.1.w (fun c j h => ?_), P.2.w (fun c j h => ?_)⟩
  · unfold Fpr at h; omega
  · unfold Gpr Giw Gcl at h; omega
theorem op_learn (hh : rh_hs wh) (hm : rh_ms wm) {Mh Mm : rhM} (R : Rpg Mh Mm) (S : Rsr Mh) (Y : Rly Mh Mm) (F : Rfm Mh Mm) (x1 x2 x3 x4 x5 x6 : Int) : rC2 wh YX1_learn 6 [(2, 0), (0, x1), (0, x2), (0, x3), (0, x4), (0, x5), (0, x6)] Mh wm YX32_learn 5 [(2, 0), (0, x1), (0, x2), (0, x3), (0, x4), (0, x5), (0, x6)] Mm (fun r M' r2 M2' => r = r2 ∧ Plrn Mh Mm M' M2') := by
  refine rC2.of (by decide) (LE0 rfl) (by decide) (LE0 rfl) ?_
  obtain ⟨r, Ma, r2, Na, E1, E2, e1, e2, e3, hr, h0⟩ := c_laidWord hh hm R Y x3 x4
  rw [e2] at E1
  rw [e3] at E2
  subst e1
  clear e2 e3 Ma Na
  refine rh2.l (rX1_learn_0 hh _ _ _ _ _ _ _ ?_)
  refine rh2.r (rX32_learn_0 hm _ _ _ _ _ _ _ ?_)
  refine rh2.sl (vX1_learn_4 hh E1 (LE0 rfl)) (rh2.sr (vX32_learn_4 hm E2 (LE0 rfl)) ?_)
  refine rh2.l (rX1_learn_7 hh _ _ _ _ _ _ _ _ ?_)
  refine ⟨fun z => ?_, fun z => ⟨?_, ?_⟩⟩
  · refine rh1.of (rX32_learn_7 hm _ _ _ _ _ _ _ _ ?_)
    exact ⟨fun _ => ⟨rfl, Pwd.mk0.lrn F⟩, fun y => by omega⟩
  · have := (h0 (by omega)).1; exact this
  · have z0 : r = 0 := (by omega)
    obtain ⟨hp, hW, h23, h4, LL, LW, hw⟩ := h0 z0
    have hw80 : x4 < 80 := by
      obtain ⟨tot, -, W, -⟩ := LW
      have := W.2.1
      omega
    obtain ⟨r1, M1, r2, M2, K1, K2, f1, f2, P⟩ := c_prep0 hh hm R S hp hW h4 LL LW hw
    obtain ⟨q1, q2, q3, q4, q5, q6, q7, q8, -⟩ := (R x3 hp.1 hp.2).1
    refine rh2.r (rX32_learn_7 hm _ _ _ _ _ _ _ _ ?_)
    refine ⟨fun y => by omega, fun _ => ?_⟩
    refine rh2.sl (vX1_learn_29 hh K1 (LE0 rfl)) (rh2.sr (vX32_learn_21 hm K2 (LE0 rfl)) ?_)
    refine rh2.l (rX1_learn_32 hh _ _ _ _ _ ?_)
    refine rh2.r (rX32_learn_24 hm _ _ _ _ _ ?_)
    have hx := hs_pg hh hp.1 hp.2
    have hy : rh_bl wh 1 (251 + 39 * x3 + 9) 0 := by
      have := hs_ly hh hp.1 hp.2
      rwa [show 260 + 39 * x3 = 251 + 39 * x3 + 9 by omega] at this
    obtain ⟨r3, M3, r4, M4, K3, K4, e34, r01, f3, f4, PT⟩ := c_part hh hm hx hy (by omega) P ⟨hw.1, hw80⟩ (show 0 ≤ Mm 4 x3 by omega) q4 q6 q5 q8 x5 x6
    refine rh2.sl (vX1_learn_40 hh K3 (LE0 rfl)) (rh2.sr (vX32_learn_29 hm K4 (LE0 rfl)) ?_)
    rw [← e34]
    have P2 : Prp M3 M4 (251 + 39 * x3) x4 (Mm 4 x3) (Mm 5 x3) := P.fx (by omega) (f3.w (fun c j h => by omega)) (f4.w (fun c j h => by omega))
    have FF : frx (fun c j => Fpr c j ∨ c = 25 ∨ c = 31 ∨ c = 32) Mh M3 := (f1.w (fun _ _ h => .inl h)).tr (f3.w (fun c j h => .inr (.inl h.1)))
    have GG : frx (fun c j => (c = 0 ∧ (j = 0 ∨ (84 ≤ j ∧ j ≤ 87))) ∨ Gpr c j ∨ c = 62) Mm M4 := (Pwd.mk2 f1 f2).2.tr (f4.w (fun c j h => .inl ⟨h.1, .inr h.2⟩))
    have PW : Pwd Mh Mm M3 M4 := ⟨FF, GG⟩
    have PL := PW.lrn F
    have F4 := PL.1
    refine rh2.l (rX1_learn_43 hh _ _ _ _ ?_)
    refine ⟨fun y => ?_, fun y => ?_⟩
    · refine rh1.of (rX32_learn_32 hm _ _ _ _ ?_)
      exact ⟨fun _ => ⟨rfl, PL⟩, fun u => absurd y u⟩
    · obtain ⟨T, -⟩ := PT y
      obtain ⟨t1, t2, t3, t4, t5, t6, t7, t8⟩ := T
      rw [t1, t2, t3, t4]
      refine ⟨fun _ _ => ⟨by omega, by omega⟩, fun _ _ _ => ⟨by omega, by omega⟩, fun d => ?_, fun d => ⟨fun e => ?_, fun e => ?_⟩⟩
      · refine rh1.of (rX32_learn_32 hm _ _ _ _ ?_)
        exact ⟨fun u => absurd u y, fun _ => ⟨fun _ _ => ⟨by omega, by omega⟩, fun _ _ _ => ⟨by omega, by omega⟩, fun _ => ⟨rfl, PL⟩, fun u => by omega⟩⟩
      · refine rh1.of (rX32_learn_32 hm _ _ _ _ ?_)
        rw [F4.1] at e
        exact ⟨fun u => absurd u y, fun _ => ⟨fun _ _ => ⟨by omega, by omega⟩, fun _ _ _ => ⟨by omega, by omega⟩, fun u => by omega, fun _ => ⟨fun _ => ⟨rfl, PL⟩, fun u => absurd e u⟩⟩⟩
      · refine rh2.r (rX32_learn_32 hm _ _ _ _ ?_)
        have n150 := F4.2.1
        rw [F4.1] at e
        refine ⟨fun u => absurd u y, fun _ => ⟨fun _ _ => ⟨by omega, by omega⟩, fun _ _ _ => ⟨by omega, by omega⟩, fun u => by omega, fun _ => ⟨fun u => absurd u e, fun _ => ?_⟩⟩⟩
        obtain ⟨r5, M5, r6, M6, K5, K6, e5, f5, f6, n6, F6⟩ := c_keep hh hm (fc := x1) (lt := x2) hx (by omega) P2 ⟨t1, t2, t3, t4, t5, t6, t7, t8⟩ F4 (show 0 ≤ Mm 4 x3 by omega) q4 q6 q8 ⟨by omega, by omega⟩ ⟨by omega, by omega⟩ (by omega) (by omega) (by omega)
        refine rh2.sl (vX1_learn_104 hh K5 (LE0 rfl)) (rh2.sr (vX32_learn_104 hm K6 (LE0 rfl)) ?_)
        refine rh2.l (rX1_learn_107 hh _ _ ?_)
        refine rh1.of (rX32_learn_107 hm _ ?_)
        rw [n6]
        refine ⟨⟨by omega, by omega⟩, by omega, F6, PL.2.1.tr (f5.w (fun c j h => ?_)), PL.2.2.tr (f6.w (fun c j h => ?_))⟩
        · unfold Fle at h; omega
        · unfold Gke at h; omega
end LearnO
