/-! ===== LAYER 2: isMended: the first set that mends ===== -/
section IsMend
variable {wh wm : rhW}
def Fim (b c j : Int) : Prop := (c = 213 ∧ j = 6) ∨ (c = 217 ∧ b ≤ j) ∨ c = 219 ∨ c = 220
theorem plc_g {b e : Int} {pb q q' : Int → Int} (h : ∀ k, 0 ≤ k → k < e → q k = q' k) {c : Int} (c1 : c < b + e) : plc b pb q c = plc b pb q' c := by
  unfold plc
  by_cases z : c < b
  · rw [if_pos z, if_pos z]
  · rw [if_neg z, if_neg z, h (c - b) (by omega) (by omega)]
def Hrs (A0 : rhM) (z : Int → Int) (sz n b e d : Int) (q0 : Int → Int) (fr r : Int) (A' : rhM) : Prop := (r = 0 ∧ A' 213 6 = b + d ∧ (∀ k, 0 ≤ k → k < d → A' 217 (b + k) = q0 k) ∧ ∀ q, Ext (A0 216) sz e d q0 fr q → ¬ OKq z sz n b (A0 217) e q) ∨ (r = 1 ∧ A' 213 6 = b + e ∧ ∃ q W, Ext (A0 216) sz e d q0 fr q ∧ (∀ k, 0 ≤ k → k < e → A' 217 (b + k) = q k) ∧ (Off W z (plc b (A0 217) q) sz (b + e).toNat ∧ Rgt W sz n) ∧ (∀ c, 0 ≤ c → c < b + e → A' 220 c = rh_xor (z (plc b (A0 217) q c)) (W (plc b (A0 217) q c))) ∧ ∀ q', Ext (A0 216) sz e d q0 fr q' → OKq z sz n b (A0 217) e q' → ¬ Lx q' q e)
theorem h_rec0 (hh : rh_hs wh) (hm : rh_ms wm) {A0 A : rhM} {z q0 : Int → Int} {sz n b e fr : Int} (R : Rmn A0) (hn : 1 ≤ n ∧ n ≤ 8) (hz : A0 213 3 = sz) (hz2 : 0 ≤ sz ∧ sz ≤ 15) (hb : Blk (A0 216) sz b (A0 217)) (he : 0 ≤ e ∧ b + e ≤ n) (hzr : ∀ i, 0 ≤ i → i < sz → R16 (z i)) (hsum : ∀ t, 0 ≤ t → t < n → A0 218 t = msum z sz (t + 1) sz.toNat) (f : frx (Fim b) A0 A) (h6 : A 213 6 = b + e) (hq : ∀ k, 0 ≤ k → k < e → A 217 (b + k) = q0 k) (hc : Cmb (A0 216) sz e q0) :
    ∃ r A', eC wh YX26_isMended (4 + 0) [(2, 213), (0, n), (0, 0), (0, fr)] A r A' ∧ frx (Fim b) A0 A' ∧ Hrs A0 z sz n b e e q0 fr r A' := by
  have b0 := hb.1
  have pl : ∀ c, 0 ≤ c → c < b + e → A 217 c = plc b (A0 217) q0 c := fun c c0 c1 => by
    by_cases y : c < b
    · rw [plc_b y]; exact f 217 c (by unfold Fim; omega)
    · rw [show c = b + (c - b) by omega, plc_q (by omega)]; exact hq (c - b) (by omega) (by omega)
  have mN : (((b + e).toNat : Nat) : Int) = b + e := by omega
  obtain ⟨v, A', E, cs, f'⟩ := s_h hh hm (A := A) (n := n) (sz := sz) (m := (b + e).toNat) (z := z) ⟨fun i i0 i1 => by rw [f 214 i (by unfold Fim; omega)]; exact R.1 i i0 i1, fun i i0 i1 => by rw [f 215 i (by unfold Fim; omega)]; exact R.2 i i0 i1⟩ (by omega) hn (by omega) (by rw [f 213 3 (by unfold Fim; omega)]; exact hz) hz2 (by rw [h6, mN]) (fun c c0 c1 => by rw [pl c c0 (by omega)]; exact plc_r hb hc c0 (by omega)) (fun a c a0 a1 c0 c1 h => by rw [pl a a0 (by omega), pl c c0 (by omega)] at h; exact plc_d hb hc a0 (by omega) c0 (by omega) h) hzr (fun t t0 t1 => by rw [f 218 t (by unfold Fim; omega)]; exact hsum t t0 t1)
  have v01 : 0 ≤ v ∧ v ≤ 1 := by rcases cs with ⟨c1, -⟩ | ⟨c1, -⟩ <;> omega
  refine ⟨v, A', eC.of1 (rC1.of (by decide) (LE0 rfl) ?_), f.tr (f'.w (fun c j h => by unfold Fim; omega)), ?_⟩
  · refine rh1.up (rX26_isMended_0 hh _ _ _ _ ?_)
    refine ⟨fun _ => ?_, fun y => absurd (by omega) y⟩
    refine rh1.s (w_im6 hh (by decide) E (LE0 rfl)) ?_
    refine rh1.up (rX26_isMended_9 hh _ _ ?_)
    exact ⟨v01, rfl, rfl⟩
  · have g6 : A' 213 6 = b + e := by rw [f' 213 6 (by omega)]; exact h6
    have gq : ∀ k, 0 ≤ k → k < e → A' 217 (b + k) = q0 k := fun k k0 k1 => by rw [f' 217 _ (by omega)]; exact hq k k0 k1
    rcases cs with ⟨c1, c2, c3⟩ | ⟨c1, W, w1, w2, w3⟩
    · refine .inl ⟨c1, g6, gq, fun q hx ⟨W, w1, w2⟩ => c3 W (w1.cg (fun c c0 c1 => ?_)) w2⟩
      rw [pl c c0 (by omega)]
      exact plc_g (fun k k0 k1 => (hx.2.1 k k0 k1).symm) (by omega)
    · refine .inr ⟨c1, g6, q0, W, ⟨hc, fun _ _ _ => rfl, fun y => by omega⟩, gq, ⟨w1.cg (fun c c0 c1 => (pl c c0 (by omega)).symm), w2⟩, fun c c0 c1 => ?_, fun q' hx _ lx => ?_⟩
      · rw [w3 c c0 (by omega), pl c c0 c1]
      · obtain ⟨k, k1, -, k3⟩ := lx
        have := hx.2.1 k k1.1 k1.2
        omega
theorem h_recS (hh : rh_hs wh) {A0 : rhM} {z : Int → Int} {sz n b e d fr : Int} {more : Nat} {q0 : Int → Int} (hn : 1 ≤ n ∧ n ≤ 8) (hz : A0 213 3 = sz) (hz2 : 0 ≤ sz ∧ sz ≤ 15) (hb0 : 0 ≤ b) (he : b + e ≤ n) (hd : d + more + 1 = e) (d0 : 0 ≤ d) (fr0 : 0 ≤ fr) (hc : Cmb (A0 216) sz d q0) (hl : 0 < d → q0 (d - 1) < fr)
    (IH : ∀ (fr' : Int) (A : rhM) (q1 : Int → Int), 0 ≤ fr' → frx (Fim b) A0 A → A 213 6 = b + (d + 1) → (∀ k, 0 ≤ k → k < d + 1 → A 217 (b + k) = q1 k) → Cmb (A0 216) sz (d + 1) q1 → (0 < d + 1 → q1 (d + 1 - 1) < fr') → ∃ r A', eC wh YX26_isMended (4 + more) [(2, 213), (0, n), (0, (more : Int)), (0, fr')] A r A' ∧ frx (Fim b) A0 A' ∧ Hrs A0 z sz n b e (d + 1) q1 fr' r A') :
    ∀ (u : Nat) (i : Int) (A : rhM), (sz - i).toNat = u → fr ≤ i → frx (Fim b) A0 A → A 213 6 = b + d → (∀ k, 0 ≤ k → k < d → A 217 (b + k) = q0 k) → (∀ q, Ext (A0 216) sz e d q0 fr q → q d < i → ¬ OKq z sz n b (A0 217) e q) → ∃ r A', (∀ P : Int → rhM → Prop, P r A' → rh1 wh YX26_isMended (4 + (more + 1)) 13 [(0, 2, 213), (1, 0, n), (2, 0, ((more + 1 : Nat) : Int)), (4, 0, i)] [] A P) ∧ frx (Fim b) A0 A' ∧ Hrs A0 z sz n b e d q0 fr r A' := by
  intro u
  induction u using Nat.strongRecOn with
  | ind u ih =>
    intro i A hu fi f h6 hq hno
    replace hl := Hid.mk hl
    have a3 : A 213 3 = sz := by rw [f 213 3 (by unfold Fim; omega)]; exact hz
    have a16 : ∀ j, A 216 j = A0 216 j := fun j => f 216 j (by unfold Fim; omega)
    by_cases lt : i < sz
    · by_cases bl : A0 216 i = 16
      · obtain ⟨r, A', H, f', rs⟩ := ih _ (by omega) (i + 1) A rfl (by omega) f h6 hq (fun q hx hqi => by
          by_cases y : q d = i
          · have := (hx.1 d d0 (by omega)).2.1
            rw [y] at this
            exact absurd bl this
          · exact hno q hx (by omega))
        refine ⟨r, A', fun P HP => ?_, f', rs⟩
        refine rh1.up (rX26_isMended_13 hh _ _ _ _ ?_)
        rw [a3, a16 i]
        exact ⟨fun _ => ⟨⟨by omega, by omega⟩, fun y => absurd bl y, fun _ => ⟨⟨by omega, by omega⟩, H P HP⟩⟩, fun y => absurd lt y⟩
      · obtain ⟨A2, hA2⟩ : ∃ A2, A2 = rh_set (rh_set A 217 (b + d) i) 213 6 (b + (d + 1)) := ⟨_, rfl⟩
        have f2 : frx (Fim b) A0 A2 := by rw [hA2]; exact (f.st (.inr (.inl ⟨rfl, by omega⟩))).st (.inl ⟨rfl, rfl⟩)
        obtain ⟨q1, hq1⟩ : ∃ q1 : Int → Int, q1 = fun k => if k = d then i else q0 k := ⟨_, rfl⟩
        have q1d : q1 d = i := by rw [hq1]; exact if_pos rfl
        have q1o : ∀ k, k ≠ d → q1 k = q0 k := fun k hk => by rw [hq1]; exact if_neg hk
        have c1 : Cmb (A0 216) sz (d + 1) q1 := fun k k0 k1 => by
          by_cases y : k = d
          · rw [y, q1d]; exact ⟨⟨by omega, by omega⟩, bl, fun y => by omega⟩
          · rw [q1o k y]
            obtain ⟨x1, x2, x3⟩ := hc k k0 (by omega)
            refine ⟨x1, x2, fun k2 => ?_⟩
            by_cases y2 : k + 1 = d
            · rw [y2, q1d]
              have := hl.out (by omega)
              rw [show d - 1 = k by omega] at this
              omega
            · rw [q1o (k + 1) y2]; exact x3 (by omega)
        obtain ⟨r, A3, E, f3, rs⟩ := IH (i + 1) A2 q1 (by omega) f2 (by rw [hA2, rh_set_s]) (fun k k0 k1 => by
          rw [hA2, rh_set_a (by decide)]
          by_cases y : k = d
          · rw [y, rh_set_s, q1d]
          · rw [rh_set_j (by omega), q1o k y]; exact hq k k0 (by omega)) c1 (fun _ => by rw [show d + 1 - 1 = d by omega, q1d]; omega)
        have go : ∀ P : Int → rhM → Prop, rh1 wh YX26_isMended (4 + (more + 1)) 67 [(0, 2, 213), (1, 0, n), (2, 0, ((more + 1 : Nat) : Int)), (4, 0, i)] [(0, r)] A3 P → rh1 wh YX26_isMended (4 + (more + 1)) 13 [(0, 2, 213), (1, 0, n), (2, 0, ((more + 1 : Nat) : Int)), (4, 0, i)] [] A P := fun P HP => by
          refine rh1.up (rX26_isMended_13 hh _ _ _ _ ?_)
          rw [a3, a16 i, h6]
          refine ⟨fun _ => ⟨⟨by omega, by omega⟩, fun _ => ⟨⟨by omega, by omega⟩, ?_⟩, fun y => absurd bl y⟩, fun y => absurd lt y⟩
          (intro zq hzq; replace hzq := hzq.symm; subst hzq)
          have e6 : rh_set A 217 (b + d) i 213 6 + 1 = b + (d + 1) := by rw [rh_set_a (by decide), h6]; omega
          rw [e6, ← hA2]
          refine ⟨⟨by omega, by omega⟩, rh1.s (eS.fx 0 (x := i + 1) rfl ⟨by omega, by omega⟩ rfl) (rh1.s (eS.fx 1 (x := ((more + 1 : Nat) : Int) - 1) rfl ⟨by omega, by omega⟩ rfl) ?_)⟩
          rw [show ((more + 1 : Nat) : Int) - 1 = (more : Int) by omega]
          exact rh1.s (w_im64 hh (by omega) E (LE0 rfl)) HP
        rcases rs with ⟨r0, s6, sq, sno⟩ | ⟨r1, s6, q, W, hx, sq, sW, s20, smin⟩
        · obtain ⟨A4, hA4⟩ : ∃ A4, A4 = rh_set A3 213 6 (A3 213 6 - 1) := ⟨_, rfl⟩
          have f4 : frx (Fim b) A0 A4 := by rw [hA4]; exact f3.st (.inl ⟨rfl, rfl⟩)
          obtain ⟨r', A', H, f', rs'⟩ := ih _ (by omega) (i + 1) A4 rfl (by omega) f4 (by rw [hA4, rh_set_s, s6]; omega) (fun k k0 k1 => by
            rw [hA4, rh_set_a (by decide), sq k k0 (by omega)]
            exact q1o k (by omega)) (fun q hx hqi => by
            by_cases y : q d = i
            · refine sno q ⟨hx.1, fun k k0 k1 => ?_, fun y2 => ?_⟩
              · by_cases yk : k = d
                · rw [yk, q1d]; exact y
                · rw [q1o k yk]; exact hx.2.1 k k0 (by omega)
              · have := hx.1.up d d0 y2
                omega
            · exact hno q hx (by omega))
          refine ⟨r', A', fun P HP => go P ?_, f', rs'⟩
          refine rh1.up (rX26_isMended_67 hh _ _ _ _ _ ?_)
          rw [r0, ← hA4]
          exact ⟨fun y => absurd rfl y, fun _ => ⟨by rw [s6]; exact ⟨by omega, by omega⟩, ⟨by omega, by omega⟩, H P HP⟩⟩
        · refine ⟨1, A3, fun P HP => go P ?_, f3, .inr ⟨rfl, s6, q, W, ⟨hx.1, fun k k0 k1 => ?_, fun _ => ?_⟩, sq, sW, s20, fun q' hx' ok lx => ?_⟩⟩
          · refine rh1.up (rX26_isMended_67 hh _ _ _ _ _ ?_)
            rw [r1]
            exact ⟨fun _ => HP, fun y => absurd (by decide) y⟩
          · rw [hx.2.1 k k0 (by omega)]; exact q1o k (by omega)
          · rw [hx.2.1 d d0 (by omega), q1d]; exact fi
          · have qd : q d = i := by rw [hx.2.1 d d0 (by omega), q1d]
            have nlt : ¬ q' d < i := fun y => hno q' hx' y ok
            obtain ⟨k, k1, k2, k3⟩ := id lx
            by_cases y1 : k < d
            · have e1 := hx'.2.1 k k1.1 y1
              have e2 := hx.2.1 k k1.1 (by omega)
              rw [q1o k (by omega)] at e2
              omega
            · by_cases y2 : k = d
              · rw [y2, qd] at k3
                exact nlt k3
              · have e1 := k2 d d0 (by omega)
                refine smin q' ⟨hx'.1, fun j j0 j1 => ?_, fun y => ?_⟩ ok lx
                · by_cases yj : j = d
                  · rw [yj, q1d, e1, qd]
                  · rw [q1o j yj]; exact hx'.2.1 j j0 (by omega)
                · have := hx'.1.up d d0 y
                  omega
    · refine ⟨0, A, fun P HP => ?_, f, .inl ⟨rfl, h6, hq, fun q hx => hno q hx ?_⟩⟩
      · refine rh1.up (rX26_isMended_13 hh _ _ _ _ ?_)
        rw [a3]
        exact ⟨fun y => absurd y lt, fun _ => HP⟩
      · have := (hx.1 d d0 (by omega)).1
        omega
theorem h_rec (hh : rh_hs wh) (hm : rh_ms wm) {A0 : rhM} {z : Int → Int} {sz n b e : Int} (R : Rmn A0) (hn : 1 ≤ n ∧ n ≤ 8) (hz : A0 213 3 = sz) (hz2 : 0 ≤ sz ∧ sz ≤ 15) (hb : Blk (A0 216) sz b (A0 217)) (he : 0 ≤ e ∧ b + e ≤ n) (hzr : ∀ i, 0 ≤ i → i < sz → R16 (z i)) (hsum : ∀ t, 0 ≤ t → t < n → A0 218 t = msum z sz (t + 1) sz.toNat) :
    ∀ (more : Nat) (d fr : Int) (A : rhM) (q0 : Int → Int), d + more = e → 0 ≤ d → 0 ≤ fr → frx (Fim b) A0 A → A 213 6 = b + d → (∀ k, 0 ≤ k → k < d → A 217 (b + k) = q0 k) → Cmb (A0 216) sz d q0 → (0 < d → q0 (d - 1) < fr) → ∃ r A', eC wh YX26_isMended (4 + more) [(2, 213), (0, n), (0, (more : Int)), (0, fr)] A r A' ∧ frx (Fim b) A0 A' ∧ Hrs A0 z sz n b e d q0 fr r A' := by
  intro more
  induction more with
  | zero =>
    intro d fr A q0 hd d0 fr0 f h6 hq hc hl
    have de : d = e := by omega
    rw [de] at h6 hq hc ⊢
    exact h_rec0 hh hm R hn hz hz2 hb he hzr hsum f h6 hq hc
  | succ more ih =>
    intro d fr A q0 hd d0 fr0 f h6 hq hc hl
    obtain ⟨r, A', H, f', rs⟩ := h_recS hh (z := z) hn hz hz2 hb.1 he.2 (show d + more + 1 = e by omega) d0 fr0 hc hl (fun fr' A q1 g0 g1 g2 g3 g4 g5 => ih (d + 1) fr' A q1 (by omega) (by omega) g0 g1 g2 g3 g4 g5) _ fr A rfl (Int.le_refl _) f h6 hq (fun q hx hqi => by
      have := hx.2.2 (by omega)
      omega)
    refine ⟨r, A', eC.of1 (rC1.of (by decide) (LE0 rfl) ?_), f', rs⟩
    refine rh1.up (rX26_isMended_0 hh _ _ _ _ ?_)
    exact ⟨fun y => absurd y (by omega), fun _ => H _ ⟨rfl, rfl⟩⟩
end IsMend
