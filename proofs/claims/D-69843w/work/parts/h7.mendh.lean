/-! ===== LAYER 2: Mender.mend ===== -/
section MendH
variable {wh wm : rhW}
/-- where the blanks lie -/
def Bls (w : Int → Int) (sz : Int) (pb : Int → Int) : Prop := ∀ k : Nat, (k : Int) < sz → w k = 16 → pb (nct w 16 k) = k
theorem nct_w {w : Int → Int} {c : Int} {k : Nat} : nct w c (k + 1) = nct w c k + (if w k = c then 1 else 0) := rfl
theorem nct_ex {w : Int → Int} {v : Int} : ∀ (K : Nat) (c : Int), 0 ≤ c → c < nct w v K → ∃ k : Nat, k < K ∧ w k = v ∧ nct w v k = c
  | 0, c, c0, c1 => by simp only [nct] at c1; omega
  | K + 1, c, c0, c1 => by
    rw [nct_w] at c1
    by_cases y : c < nct w v K
    · obtain ⟨k, k1, k2, k3⟩ := nct_ex K c c0 y
      exact ⟨k, by omega, k2, k3⟩
    · by_cases q : w K = v
      · rw [if_pos q] at c1
        exact ⟨K, by omega, q, by omega⟩
      · rw [if_neg q] at c1
        omega
theorem nct_mo {w : Int → Int} {v : Int} {a : Nat} : ∀ u : Nat, nct w v a ≤ nct w v (a + u)
  | 0 => Int.le_refl _
  | u + 1 => by
    have i := nct_mo (w := w) (v := v) (a := a) u
    rw [show a + (u + 1) = a + u + 1 by omega, nct_w]
    split <;> omega
theorem Bls.blk {w : Int → Int} {sz : Int} {pb : Int → Int} (h : Bls w sz pb) (hs : 0 ≤ sz) : Blk w sz (nct w 16 sz.toNat) pb := by
  refine ⟨(nct_b w 16 _).1, fun c c0 c1 => ?_, fun a c a0 a1 c0 c1 e => ?_⟩
  · obtain ⟨k, k1, k2, k3⟩ := nct_ex sz.toNat c c0 c1
    have := h k (by omega) k2
    rw [k3] at this
    rw [this]
    exact ⟨⟨by omega, by omega⟩, k2⟩
  · obtain ⟨k, k1, k2, k3⟩ := nct_ex sz.toNat a a0 a1
    obtain ⟨l, l1, l2, l3⟩ := nct_ex sz.toNat c c0 c1
    have e1 := h k (by omega) k2
    have e2 := h l (by omega) l2
    rw [k3] at e1
    rw [l3] at e2
    rw [e1, e2] at e
    have : k = l := by omega
    rw [← k3, ← l3, this]
theorem Bls.eq {w : Int → Int} {sz : Int} {pb pb' : Int → Int} (h : Bls w sz pb) (h' : Bls w sz pb') {c : Int} (c0 : 0 ≤ c) (c1 : c < nct w 16 sz.toNat) : pb c = pb' c := by
  obtain ⟨k, k1, k2, k3⟩ := nct_ex sz.toNat c c0 c1
  have e1 := h k (by omega) k2
  have e2 := h' k (by omega) k2
  rw [k3] at e1 e2
  rw [e1, e2]
theorem h_blks (hh : rh_hs wh) {A : rhM} {sz n : Int} (hz : A 213 3 = sz) (hz2 : 0 ≤ sz ∧ sz ≤ 15) : ∀ (u k : Nat) (X : rhM), ((k : Int) + u) = sz → X 213 5 = nct (A 216) 16 k → Bls (A 216) k (X 217) → frx (fun c j => (c = 213 ∧ j = 5) ∨ c = 217) A X → ∃ X', eS wh YX26_mend (5 + 8) 7 [(0, 2, 213), (1, 0, n), (2, 0, (k : Int))] [] X 7 [(0, 2, 213), (1, 0, n), (2, 0, sz)] [] X' ∧ X' 213 5 = nct (A 216) 16 sz.toNat ∧ Bls (A 216) sz (X' 217) ∧ frx (fun c j => (c = 213 ∧ j = 5) ∨ c = 217) A X' := by
  intro u
  induction u with
  | zero =>
    intro k X hk h5 hb g
    have ek : (k : Int) = sz := by omega
    rw [ek] at hb ⊢
    refine ⟨X, eS.rf, ?_, hb, g⟩
    rw [h5, show sz.toNat = k by omega]
  | succ u ih =>
    intro k X hk h5 hb g
    have e3 : X 213 3 = sz := by rw [g 213 3 (by omega)]; exact hz
    have e6 : X 216 k = A 216 k := g 216 k (by omega)
    have nb := nct_b (A 216) 16 k
    by_cases q : A 216 k = 16
    · obtain ⟨X', E, r⟩ := ih (k + 1) (rh_set (rh_set X 213 5 (nct (A 216) 16 k + 1)) 217 (nct (A 216) 16 k) k) (by omega) (by rw [rh_set_a (by decide), rh_set_s, nct_w, if_pos q]) (fun i i1 i2 => by
        by_cases y : i = k
        · rw [y, rh_set_s]
        · have m := nct_mo (w := A 216) (v := 16) (a := i + 1) (k - (i + 1))
          rw [show i + 1 + (k - (i + 1)) = k by omega, nct_w, if_pos i2] at m
          rw [rh_set_j (by omega), rh_set_a (by decide)]
          exact hb i (by omega) i2) ((g.st (.inl ⟨rfl, rfl⟩)).st (.inr rfl))
      refine ⟨X', eS.of (fun P HP => ?_), r⟩
      refine rh1.up (rX26_mend_7 hh _ _ _ ?_)
      rw [e3, e6, h5]
      refine ⟨fun _ => ⟨⟨by omega, by omega⟩, fun _ => ⟨⟨by omega, by omega⟩, ⟨by omega, by omega⟩, ⟨by omega, by omega⟩, ?_⟩, fun y => absurd q y⟩, fun y => by omega⟩
      rw [show ((k : Int) + 1) = ((k + 1 : Nat) : Int) by omega]
      exact rh1.s E HP
    · obtain ⟨X', E, r⟩ := ih (k + 1) X (by omega) (by rw [h5, nct_w, if_neg q]; omega) (fun i i1 i2 => by
        by_cases y : i = k
        · rw [y] at i2; exact absurd i2 q
        · exact hb i (by omega) i2) g
      refine ⟨X', eS.of (fun P HP => ?_), r⟩
      refine rh1.up (rX26_mend_7 hh _ _ _ ?_)
      rw [e3, e6]
      refine ⟨fun _ => ⟨⟨by omega, by omega⟩, fun y => absurd y q, fun _ => ⟨⟨by omega, by omega⟩, ?_⟩⟩, fun y => by omega⟩
      rw [show ((k : Int) + 1) = ((k + 1 : Nat) : Int) by omega]
      exact rh1.s E HP
/-- the mended word -/
theorem h_puts (hh : rh_hs wh) {A : rhM} {W pl : Int → Int} {m e b : Int} (hm0 : 0 ≤ m ∧ m ≤ 8) (h6 : A 213 6 = m) (hpl : ∀ c, 0 ≤ c → c < m → A 217 c = pl c ∧ 0 ≤ pl c ∧ pl c < 15) (hd : ∀ a c, 0 ≤ a → a < m → 0 ≤ c → c < m → pl a = pl c → a = c) (h20 : ∀ c, 0 ≤ c → c < m → A 220 c = rh_xor (zw A (pl c)) (W (pl c)) ∧ R16 (zw A (pl c)) ∧ R16 (W (pl c))) : ∀ (u : Nat) (k : Int) (X : rhM), k + u = m → 0 ≤ k → (∀ i, X 216 i = rh_if (∃ c, (0 ≤ c ∧ c < k) ∧ pl c = i) (W i) (A 216 i)) → frx (fun c _ => c = 216) A X → ∃ X', eS wh YX26_mend (5 + 8) 88 [(0, 2, 213), (2, 0, e), (3, 0, k)] [] X 88 [(0, 2, 213), (2, 0, e), (3, 0, m)] [] X' ∧ (∀ i, X' 216 i = rh_if (∃ c, (0 ≤ c ∧ c < m) ∧ pl c = i) (W i) (A 216 i)) ∧ frx (fun c _ => c = 216) A X' := by
  intro u
  induction u with
  | zero =>
    intro k X hk k0 h g
    have ek : k = m := by omega
    rw [ek] at h ⊢
    exact ⟨X, eS.rf, h, g⟩
  | succ u ih =>
    intro k X hk k0 h g
    obtain ⟨p1, p2, p3⟩ := hpl k k0 (by omega)
    obtain ⟨v1, v2, v3⟩ := h20 k k0 (by omega)
    have x7 : X 217 k = pl k := by rw [g 217 k (by omega)]; exact p1
    have x6 : X 216 (pl k) = A 216 (pl k) := by
      rw [h]
      exact rh_if_f (fun ⟨c, c1, c2⟩ => by have := hd c k c1.1 (by omega) k0 (by omega) c2; omega)
    have x0 : X 220 k = rh_xor (zw A (pl k)) (W (pl k)) := by rw [g 220 k (by omega)]; exact v1
    have ev : rh_xor (zw A (pl k)) (rh_xor (zw A (pl k)) (W (pl k))) = W (pl k) := by
      rw [← xor_as v2 v2 v3, (xor_0 v2).2.2, (xor_0 v3).1]
    obtain ⟨X', E, r⟩ := ih (k + 1) (rh_set X 216 (pl k) (W (pl k))) (by omega) (by omega) (fun i => by
      by_cases y : i = pl k
      · rw [y, rh_set_s]
        exact (rh_if_t ⟨k, by omega, rfl⟩).symm
      · rw [rh_set_j y, h i]
        by_cases q : ∃ c, (0 ≤ c ∧ c < k) ∧ pl c = i
        · obtain ⟨c, c1, c2⟩ := q
          rw [rh_if_t ⟨c, c1, c2⟩, rh_if_t ⟨c, by omega, c2⟩]
        · rw [rh_if_f q, rh_if_f (fun ⟨c, c1, c2⟩ => by
            by_cases ck : c = k
            · rw [ck] at c2; exact y c2.symm
            · exact q ⟨c, by omega, c2⟩)]) (g.st rfl)
    refine ⟨X', eS.of (fun P HP => ?_), r⟩
    refine rh1.up (rX26_mend_88 hh _ _ _ ?_)
    rw [g 213 6 (by omega), h6, x7, x6, x0]
    refine ⟨fun _ => ⟨⟨by omega, by omega⟩, ⟨by omega, by omega⟩, ⟨by omega, by omega⟩, fun _ => ⟨by omega, by omega⟩, fun _ => ⟨by omega, by omega⟩, ⟨by omega, by omega⟩, ?_⟩, fun y => by omega⟩
    intro v hv
    have hv2 : v = W (pl k) := hv.trans ev
    rw [hv2]
    exact ⟨⟨by omega, by omega⟩, ⟨by omega, by omega⟩, rh1.s E HP⟩
def Fmd (c j : Int) : Prop := (c = 213 ∧ (j = 5 ∨ j = 6)) ∨ (216 ≤ c ∧ c ≤ 220)
/-- what mending gives -/
def Mdo (w z W : Int → Int) (sz n : Int) (pb : Int → Int) (e : Int) (q : Int → Int) : Prop := (0 ≤ e ∧ 2 * e + nct w 16 sz.toNat ≤ n) ∧ (∀ e' q', 0 ≤ e' → e' < e → Cmb w sz e' q' → ¬ OKq z sz n (nct w 16 sz.toNat) pb e' q') ∧ Cmb w sz e q ∧ (Off W z (plc (nct w 16 sz.toNat) pb q) sz (nct w 16 sz.toNat + e).toNat ∧ Rgt W sz n) ∧ ∀ q', Cmb w sz e q' → OKq z sz n (nct w 16 sz.toNat) pb e q' → ¬ Lx q' q e
theorem zw_r {A : rhM} {i : Int} (h : 0 ≤ A 216 i ∧ A 216 i ≤ 16) : R16 (zw A i) := by
  unfold zw R16
  by_cases y : A 216 i = 16
  · rw [rh_if_t y]; decide
  · rw [rh_if_f y]; omega
theorem c_mendH (hh : rh_hs wh) (hm : rh_ms wm) {A : rhM} {sz n : Int} (R : Rmn A) (hn : 1 ≤ n ∧ n ≤ 8) (hz : A 213 3 = sz) (hz2 : 0 ≤ sz ∧ sz ≤ 15) (hw : ∀ i, 0 ≤ i → i < sz → 0 ≤ A 216 i ∧ A 216 i ≤ 16) :
    ∃ r A' pb, eC wh YX26_mend (5 + 8) [(2, 213), (0, n)] A r A' ∧ frx Fmd A A' ∧ Bls (A 216) sz pb ∧ ((r = -1 ∧ ∀ e q, 0 ≤ e → 2 * e + nct (A 216) 16 sz.toNat ≤ n → Cmb (A 216) sz e q → ¬ OKq (zw A) sz n (nct (A 216) 16 sz.toNat) pb e q) ∨ ∃ e q W, Mdo (A 216) (zw A) W sz n pb e q ∧ r = nct (A 216) 16 sz.toNat + e ∧ ∀ i, 0 ≤ i → i < sz → A' 216 i = W i) := by
  obtain ⟨A1, E1, a5, bl, g1⟩ := h_blks hh (n := n) hz hz2 sz.toNat 0 (rh_set A 213 5 0) (by omega) (by rw [rh_set_s]; rfl) (fun k k1 _ => by omega) (frx.rf.st (.inl ⟨rfl, rfl⟩))
  have R1 : Rmn A1 := ⟨fun i i0 i1 => by rw [g1 214 i (by omega)]; exact R.1 i i0 i1, fun i i0 i1 => by rw [g1 215 i (by omega)]; exact R.2 i i0 i1⟩
  have w1 : ∀ i, A1 216 i = A 216 i := fun i => g1 216 i (by omega)
  obtain ⟨A2, E2, s2, g2⟩ := c_sumUp hh (A := A1) (n := n) (sz := sz) R1 ⟨by omega, by omega⟩ (by rw [g1 213 3 (by omega)]; exact hz) hz2 (fun i i0 i1 => by rw [w1]; exact hw i i0 i1)
  have w2 : A2 216 = A 216 := funext (fun i => by rw [g2 216 i (by omega)]; exact w1 i)
  have p2 : A2 217 = A1 217 := funext (fun i => g2 217 i (by omega))
  have zz : ∀ i, zw A1 i = zw A i := fun i => by unfold zw; rw [w1]
  have R2 : Rmn A2 := ⟨fun i i0 i1 => by rw [g2 214 i (by omega)]; exact R1.1 i i0 i1, fun i i0 i1 => by rw [g2 215 i (by omega)]; exact R1.2 i i0 i1⟩
  have h3 : A2 213 3 = sz := by rw [g2 213 3 (by omega), g1 213 3 (by omega)]; exact hz
  have h5 : A2 213 5 = nct (A 216) 16 sz.toNat := by rw [g2 213 5 (by omega)]; exact a5
  have hb := bl.blk hz2.1
  obtain ⟨b, hbb⟩ : ∃ b, b = nct (A 216) 16 sz.toNat := ⟨_, rfl⟩
  have nb := nct_b (A 216) 16 sz.toNat
  rw [← hbb] at hb h5 nb
  have hbA : Blk (A2 216) sz b (A2 217) := by rw [w2, p2]; exact hb
  have hsum : ∀ t, 0 ≤ t → t < n → A2 218 t = msum (zw A) sz (t + 1) sz.toNat := fun t t0 t1 => by
    rw [s2 t t0 t1]
    exact msum_e _ (fun i _ _ => zz i)
  have hzr : ∀ i, 0 ≤ i → i < sz → R16 (zw A i) := fun i i0 i1 => zw_r (hw i i0 i1)
  have main : ∀ (u e : Nat) (X : rhM), (n + 1 - 2 * e).toNat = u → (e : Int) ≤ 9 → frx (Fim b) A2 X → (∀ e' q', 0 ≤ e' → e' < (e : Int) → Cmb (A 216) sz e' q' → ¬ OKq (zw A) sz n b (A1 217) e' q') → ∃ r X', (∀ P : Int → rhM → Prop, P r X' → rh1 wh YX26_mend (5 + 8) 56 [(0, 2, 213), (1, 0, n), (2, 0, (e : Int))] [] X P) ∧ frx (fun c j => Fim b c j ∨ c = 216) A2 X' ∧ ((r = -1 ∧ ∀ e q, 0 ≤ e → 2 * e + b ≤ n → Cmb (A 216) sz e q → ¬ OKq (zw A) sz n b (A1 217) e q) ∨ ∃ e q W, Mdo (A 216) (zw A) W sz n (A1 217) e q ∧ r = b + e ∧ ∀ i, 0 ≤ i → i < sz → X' 216 i = W i) := by
    intro u
    induction u using Nat.strongRecOn with
    | ind u ih =>
      intro e X hu he9 f hno
      have x5 : X 213 5 = b := by rw [f 213 5 (by unfold Fim; omega)]; exact h5
      by_cases le : 2 * (e : Int) + b ≤ n
      · obtain ⟨X1, hX1⟩ : ∃ X1, X1 = rh_set X 213 6 b := ⟨_, rfl⟩
        have f1 : frx (Fim b) A2 X1 := by rw [hX1]; exact f.st (.inl ⟨rfl, rfl⟩)
        obtain ⟨r, X2, E, f2, rs⟩ := h_rec hh hm (A0 := A2) (z := zw A) (sz := sz) (n := n) (b := b) (e := (e : Int)) R2 hn h3 hz2 hbA ⟨by omega, by omega⟩ hzr hsum e 0 0 X1 (fun _ => 0) (by omega) (by decide) (by decide) f1 (by rw [hX1, rh_set_s]; omega) (fun k k0 k1 => by omega) (fun k k0 k1 => by omega) (fun y => by omega)
        unfold Hrs at rs
        rw [w2, p2] at rs
        have ext : ∀ q, Cmb (A 216) sz (e : Int) q → Ext (A 216) sz (e : Int) 0 (fun _ => 0) 0 q := fun q hq => ⟨hq, fun k k0 k1 => by omega, fun y => (hq 0 (by decide) y).1.1⟩
        have go : ∀ P : Int → rhM → Prop, rh1 wh YX26_mend (5 + 8) 83 [(0, 2, 213), (1, 0, n), (2, 0, (e : Int))] [(0, r)] X2 P → rh1 wh YX26_mend (5 + 8) 56 [(0, 2, 213), (1, 0, n), (2, 0, (e : Int))] [] X P := fun P HP => by
          refine rh1.up (rX26_mend_56 hh _ _ _ ?_)
          rw [x5, ← hX1]
          exact ⟨⟨by omega, by omega⟩, fun _ => rh1.s (w_md80 hh (by omega) E (LE0 rfl)) HP, fun y => absurd le y⟩
        rcases rs with ⟨r0, -, -, sno⟩ | ⟨r1, s6, q, W, hx, sq, sW, s20, smin⟩
        · obtain ⟨r', X', H, f', rs'⟩ := ih _ (by omega) (e + 1) X2 rfl (by omega) f2 (fun e' q' e0 e1 hq => by
            by_cases y : e' = (e : Int)
            · rw [y] at hq ⊢
              exact sno q' (ext q' hq)
            · exact hno e' q' e0 (by omega) hq)
          refine ⟨r', X', fun P HP => go P ?_, f', rs'⟩
          refine rh1.up (rX26_mend_83 hh _ _ _ _ ?_)
          rw [r0]
          refine ⟨fun y => absurd rfl y, fun _ => ⟨⟨by omega, by omega⟩, ?_⟩⟩
          rw [show ((e : Int) + 1) = ((e + 1 : Nat) : Int) by omega]
          exact H P HP
        · have hr : ∀ c, 0 ≤ c → c < b + e → 0 ≤ plc b (A1 217) q c ∧ plc b (A1 217) q c < sz := fun c c0 c1 => plc_r hb hx.1 c0 c1
          have zX : ∀ i, zw X2 i = zw A i := fun i => by unfold zw; rw [f2 216 i (by unfold Fim; omega), w2]
          obtain ⟨X3, E3, x3, g3⟩ := h_puts hh (A := X2) (W := W) (pl := plc b (A1 217) q) (m := b + e) (e := (e : Int)) (b := b) ⟨by omega, by omega⟩ s6 (fun c c0 c1 => by
            have := hr c c0 c1
            refine ⟨?_, this.1, by omega⟩
            by_cases y : c < b
            · rw [plc_b y, f2 217 c (by unfold Fim; omega), p2]
            · have := sq (c - b) (by omega) (by omega)
              rw [show b + (c - b) = c by omega] at this
              rw [this, show plc b (A1 217) q c = plc b (A1 217) q (b + (c - b)) by rw [show b + (c - b) = c by omega], plc_q (by omega)]) (fun a c a0 a1 c0 c1 h => plc_d hb hx.1 a0 a1 c0 c1 h) (fun c c0 c1 => by
            have := hr c c0 c1
            rw [zX]
            exact ⟨s20 c c0 c1, hzr _ this.1 this.2, sW.1.1 _ this.1 this.2⟩) (b + e).toNat 0 X2 (by omega) (by decide) (fun i => (rh_if_f (fun ⟨c, c1, _⟩ => by omega)).symm) frx.rf
          refine ⟨b + e, X3, fun P HP => go P ?_, (f2.w (fun c j h => .inl h)).tr (g3.w (fun c j h => .inr h)), .inr ⟨e, q, W, ?_, rfl, fun i i0 i1 => ?_⟩⟩
          · refine rh1.up (rX26_mend_83 hh _ _ _ _ ?_)
            rw [r1]
            refine ⟨fun _ => rh1.s E3 ?_, fun y => absurd (by decide) y⟩
            refine rh1.up (rX26_mend_88 hh _ _ _ ?_)
            have y5 : X3 213 5 = b := by rw [g3 213 5 (by omega), f2 213 5 (by unfold Fim; omega)]; exact h5
            rw [g3 213 6 (by omega), s6, y5]
            exact ⟨fun y => by omega, fun _ => ⟨⟨by omega, by omega⟩, HP⟩⟩
          · unfold Mdo
            rw [← hbb]
            exact ⟨⟨by omega, by omega⟩, hno, hx.1, sW, fun q' hq' ok => smin q' (ext q' hq') ok⟩
          · rw [x3 i]
            by_cases y : ∃ c, (0 ≤ c ∧ c < b + e) ∧ plc b (A1 217) q c = i
            · rw [rh_if_t y]
            · rw [rh_if_f y, sW.1.2 i i0 i1 (fun ⟨c, c1, c2⟩ => y ⟨c, by omega, c2⟩), f2 216 i (by unfold Fim; omega), w2]
              unfold zw
              rw [rh_if_f (fun y16 => y ?_)]
              have := bl i.toNat (by omega) (by rw [show ((i.toNat : Nat) : Int) = i by omega]; exact y16)
              have lt := nct_mo (w := A 216) (v := 16) (a := i.toNat + 1) (sz.toNat - (i.toNat + 1))
              have n0 := nct_b (A 216) 16 i.toNat
              rw [show i.toNat + 1 + (sz.toNat - (i.toNat + 1)) = sz.toNat by omega, ← hbb, nct_w, if_pos (by rw [show ((i.toNat : Nat) : Int) = i by omega]; exact y16)] at lt
              exact ⟨nct (A 216) 16 i.toNat, by omega, by rw [plc_b (by omega), this]; omega⟩
      · refine ⟨-1, X, fun P HP => ?_, f.w (fun c j h => .inl h), .inl ⟨rfl, fun e' q' e0 e1 hq => hno e' q' e0 (by omega) hq⟩⟩
        refine rh1.up (rX26_mend_56 hh _ _ _ ?_)
        rw [x5]
        exact ⟨⟨by omega, by omega⟩, fun y => absurd y le, fun _ => HP⟩
  obtain ⟨r, A', H, f', rs⟩ := main _ 0 A2 rfl (by decide) frx.rf (fun e' q' e0 e1 _ => by omega)
  refine ⟨r, A', A1 217, eC.of1 (rC1.of (by decide) (LE0 rfl) ?_), ?_, bl, ?_⟩
  · refine rh1.up (rX26_mend_0 hh _ _ ?_)
    refine rh1.s E1 ?_
    refine rh1.up (rX26_mend_7 hh _ _ _ ?_)
    rw [g1 213 3 (by omega), hz]
    refine ⟨fun y => by omega, fun _ => rh1.s (w_md51 hh (by decide) E2 (LE0 rfl)) ?_⟩
    refine rh1.up (rX26_mend_54 hh _ _ ?_)
    exact H _ ⟨rfl, rfl⟩
  · refine (g1.w (fun c j h => by unfold Fmd; omega)).tr ((g2.w (fun c j h => by unfold Fmd; omega)).tr (f'.w (fun c j h => ?_)))
    unfold Fim at h
    unfold Fmd
    omega
  · rw [← hbb]
    exact rs
end MendH
