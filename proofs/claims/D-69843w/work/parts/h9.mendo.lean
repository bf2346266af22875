/-! ===== LAYER 2: mend ===== -/
section MendO
variable {wh wm : rhW}
theorem Cmb.cw {w w' : Int → Int} {sz e : Int} {q : Int → Int} (h : Cmb w sz e q) (hw : ∀ i, 0 ≤ i → i < sz → w i = w' i) : Cmb w' sz e q := fun k k0 k1 => by
  obtain ⟨a1, a2, a3⟩ := h k k0 k1
  exact ⟨a1, by rw [← hw _ a1.1 a1.2]; exact a2, a3⟩
theorem OKq.cz {z z' : Int → Int} {sz n b e : Int} {pb pb' q : Int → Int} (he : 0 ≤ e) (hz : ∀ i, 0 ≤ i → i < sz → z i = z' i) (hp : ∀ c, 0 ≤ c → c < b → pb' c = pb c) (o : OKq z sz n b pb e q) : OKq z' sz n b pb' e q := by
  obtain ⟨W, w1, w2⟩ := o
  refine ⟨W, Off.cg (pl := plc b pb q) ⟨w1.1, fun i i0 i1 ni => by rw [w1.2 i i0 i1 ni]; exact hz i i0 i1⟩ (fun c c0 c1 => ?_), w2⟩
  unfold plc
  by_cases y : c < b
  · rw [if_pos y, if_pos y, hp c c0 y]
  · rw [if_neg y, if_neg y]
theorem nct_sz {w w' : Int → Int} {sz : Int} (hw : ∀ i, 0 ≤ i → i < sz → w i = w' i) {k : Nat} (hk : (k : Int) ≤ sz) : nct w 16 k = nct w' 16 k := nct_cg k (fun j j0 j1 => by rw [hw j j0 (by omega)])
theorem Bls.cw {w w' : Int → Int} {sz : Int} {pb : Int → Int} (h : Bls w sz pb) (hw : ∀ i, 0 ≤ i → i < sz → w i = w' i) : Bls w' sz pb := fun k k1 k2 => by
  rw [← nct_sz hw (Int.le_of_lt k1)]
  exact h k k1 (by rw [hw k (by omega) k1]; exact k2)
theorem Mdo.cg {w w' z z' W : Int → Int} {sz n e : Int} {pb q : Int → Int} (hs : 0 ≤ sz) (hw : ∀ i, 0 ≤ i → i < sz → w i = w' i) (hz : ∀ i, 0 ≤ i → i < sz → z i = z' i) (h : Mdo w z W sz n pb e q) : Mdo w' z' W sz n pb e q := by
  obtain ⟨a1, a2, a3, a4, a5⟩ := h
  have e1 := nct_sz hw (k := sz.toNat) (by omega)
  have hw' : ∀ i, 0 ≤ i → i < sz → w' i = w i := fun i i0 i1 => (hw i i0 i1).symm
  have hz' : ∀ i, 0 ≤ i → i < sz → z' i = z i := fun i i0 i1 => (hz i i0 i1).symm
  unfold Mdo
  rw [← e1]
  refine ⟨a1, fun e' q' e0 e1 hq o => a2 e' q' e0 e1 (hq.cw hw') (o.cz e0 hz' (fun _ _ _ => rfl)), a3.cw hw, ⟨⟨a4.1.1, fun i i0 i1 ni => by rw [a4.1.2 i i0 i1 ni]; exact hz i i0 i1⟩, a4.2⟩, fun q' hq o => a5 q' (hq.cw hw') (o.cz a1.1 hz' (fun _ _ _ => rfl))⟩
/-- one answer -/
theorem Mdo.one {w z W W' : Int → Int} {sz n e e' : Int} {pb pb' q q' : Int → Int} (hs : 0 ≤ sz ∧ sz ≤ 15) (hn : 0 ≤ n) (bl : Bls w sz pb) (bl' : Bls w sz pb') (h : Mdo w z W sz n pb e q) (h' : Mdo w z W' sz n pb' e' q') : e = e' ∧ ∀ i, 0 ≤ i → i < sz → W i = W' i := by
  obtain ⟨a1, a2, a3, a4, a5⟩ := h
  obtain ⟨c1, c2, c3, c4, c5⟩ := h'
  have pp : ∀ c, 0 ≤ c → c < nct w 16 sz.toNat → pb c = pb' c := fun c c0 c1 => bl.eq bl' c0 c1
  have hb := bl.blk hs.1
  have b0 := hb.1
  have o : OKq z sz n (nct w 16 sz.toNat) pb' e q := OKq.cz a1.1 (fun _ _ _ => rfl) (fun c c0 c1 => (pp c c0 c1).symm) ⟨W, a4.1, a4.2⟩
  have o' : OKq z sz n (nct w 16 sz.toNat) pb e' q' := OKq.cz c1.1 (fun _ _ _ => rfl) pp ⟨W', c4.1, c4.2⟩
  have ee : e = e' := by
    by_cases y : e < e'
    · exact absurd o (c2 e q a1.1 y a3)
    · by_cases y2 : e' < e
      · exact absurd o' (a2 e' q' c1.1 y2 c3)
      · omega
  refine ⟨ee, ?_⟩
  rw [← ee] at c3 c4 c5 o'
  have eN : ((e.toNat : Nat) : Int) = e := by omega
  have qq : ∀ k, 0 ≤ k → k < e → q' k = q k := fun k k0 k1 => by
    rcases Lx.tri (q' := q') (q := q) e.toNat with t | t | t
    · exact t k k0 (by omega)
    · rw [eN] at t; exact absurd t (a5 q' c3 o')
    · rw [eN] at t; exact absurd t (c5 q a3 o)
  obtain ⟨b, hbb⟩ : ∃ b, b = nct w 16 sz.toNat := ⟨_, rfl⟩
  rw [← hbb] at hb a1 a4 c4 pp b0
  have nN : ((n.toNat : Nat) : Int) = n := by omega
  have w2 : Off W' z (plc b pb q) sz (b + e).toNat := c4.1.cg (fun c c0 c1 => by
    unfold plc
    by_cases y : c < b
    · rw [if_pos y, if_pos y]; exact pp c c0 y
    · rw [if_neg y, if_neg y]; exact (qq (c - b) (by omega) (by omega)).symm)
  exact a4.1.one w2 hs.2 (n := n.toNat) (by omega) (fun c c0 c1 => plc_r hb a3 c0 (by omega)) (fun x y x0 x1 y0 y1 hxy => plc_d hb a3 x0 (by omega) y0 (by omega) hxy) (by rw [nN]; exact a4.2) (by rw [nN]; exact c4.2)
theorem ctp_pl {pl : Int → Int} {N : Nat} : ∀ m : Nat, (∀ c : Int, 0 ≤ c → c < m → 0 ≤ pl c ∧ pl c < N) → (∀ a c : Int, 0 ≤ a → a < m → 0 ≤ c → c < m → pl a = pl c → a = c) → ctp (fun k => ∃ c, (0 ≤ c ∧ c < (m : Int)) ∧ pl c = k) N = m
  | 0, _, _ => by
    rw [ctp_cg (Q := fun _ => False) N (fun j _ _ => ⟨fun ⟨c, c1, _⟩ => by omega, fun f => f.elim⟩), ctp_z]
    rfl
  | m + 1, hr, hd => by
    have i := ctp_pl m (fun c c0 c1 => hr c c0 (by omega)) (fun a c a0 a1 c0 c1 => hd a c a0 (by omega) c0 (by omega))
    have r := hr m (by omega) (by omega)
    rw [ctp_i (P := fun k => ∃ c, (0 ≤ c ∧ c < (m : Int)) ∧ pl c = k) (w := pl m) N r.1 r.2 (fun ⟨c, c1, c2⟩ => by have := hd c m c1.1 (by omega) (by omega) (by omega) c2; omega) (fun v => ⟨fun ⟨c, c1, c2⟩ => by
      by_cases y : c = m
      · rw [y] at c2; exact .inr c2.symm
      · exact .inl ⟨c, by omega, c2⟩, fun h => by
      rcases h with ⟨c, c1, c2⟩ | h
      · exact ⟨c, by omega, c2⟩
      · exact ⟨m, by omega, h.symm⟩⟩), i]
    omega
/-- in how many signs it differs -/
theorem Mdo.cnt {w z W : Int → Int} {sz n e : Int} {pb q : Int → Int} (hs : 0 ≤ sz) (bl : Bls w sz pb) (hw : ∀ i, 0 ≤ i → i < sz → 0 ≤ w i ∧ w i ≤ 16) (hz : ∀ i, 0 ≤ i → i < sz → w i ≠ 16 → z i = w i) (h : Mdo w z W sz n pb e q) : ctp (fun k => W k ≠ w k) sz.toNat = nct w 16 sz.toNat + e := by
  obtain ⟨a1, a2, a3, a4, a5⟩ := h
  have hb := bl.blk hs
  have bE := bl
  obtain ⟨b, hbb⟩ : ∃ b, b = nct w 16 sz.toNat := ⟨_, rfl⟩
  have b0 := hb.1
  rw [← hbb] at hb a1 a4 a2 b0 ⊢
  have mN : (((b + e).toNat : Nat) : Int) = b + e := by omega
  have fin := ctp_pl (pl := plc b pb q) (N := sz.toNat) (b + e).toNat (fun c c0 c1 => by have := plc_r hb a3 c0 (show c < b + e by omega); omega) (fun a c a0 a1 c0 c1 h => plc_d hb a3 a0 (by omega) c0 (by omega) h)
  rw [ctp_cg (Q := fun k => ∃ c, (0 ≤ c ∧ c < (((b + e).toNat : Nat) : Int)) ∧ plc b pb q c = k) sz.toNat (fun k k0 k1 => ?_), fin, mN]
  have k2 : k < sz := by omega
  constructor
  · intro ne
    refine Classical.byContradiction (fun ni => ne ?_)
    rw [a4.1.2 k k0 k2 ni]
    refine hz k k0 k2 (fun y16 => ni ?_)
    have t := bE k.toNat (by omega) (by rw [show ((k.toNat : Nat) : Int) = k by omega]; exact y16)
    have lt := nct_mo (w := w) (v := 16) (a := k.toNat + 1) (sz.toNat - (k.toNat + 1))
    have n0 := nct_b w 16 k.toNat
    rw [show k.toNat + 1 + (sz.toNat - (k.toNat + 1)) = sz.toNat by omega, ← hbb, nct_w, if_pos (by rw [show ((k.toNat : Nat) : Int) = k by omega]; exact y16)] at lt
    exact ⟨nct w 16 k.toNat, by omega, by rw [plc_b (by omega), t]; omega⟩
  · rintro ⟨c, c1, c2⟩ eq
    have r16 := a4.1.1 k k0 k2
    unfold R16 at r16
    by_cases y : c < b
    · rw [plc_b y] at c2
      have := (hb.2.1 c c1.1 y).2
      rw [c2] at this
      omega
    · rw [show c = b + (c - b) by omega, plc_q (by omega)] at c2
      obtain ⟨j, hj⟩ : ∃ j, j = c - b := ⟨_, rfl⟩
      rw [← hj] at c2
      have jb : 0 ≤ j ∧ j < e := by omega
      -- the set without this place
      obtain ⟨q1, hq1⟩ : ∃ q1 : Int → Int, q1 = fun i => if i < j then q i else q (i + 1) := ⟨_, rfl⟩
      have q1l : ∀ i, i < j → q1 i = q i := fun i hi => by rw [hq1]; exact if_pos hi
      have q1g : ∀ i, j ≤ i → q1 i = q (i + 1) := fun i hi => by rw [hq1]; exact if_neg (by omega)
      have c3 : Cmb w sz (e - 1) q1 := fun i i0 i1 => by
        by_cases yi : i < j
        · rw [q1l i yi]
          obtain ⟨x1, x2, x3⟩ := a3 i i0 (by omega)
          refine ⟨x1, x2, fun i2 => ?_⟩
          by_cases yj : i + 1 < j
          · rw [q1l _ yj]; exact x3 (by omega)
          · rw [q1g _ (by omega)]
            have := ris_lt a3.up i0 (show i < i + 1 + 1 by omega) (show i + 1 + 1 < e by omega)
            omega
        · rw [q1g i (by omega), q1g (i + 1) (by omega)]
          obtain ⟨x1, x2, x3⟩ := a3 (i + 1) (by omega) (by omega)
          exact ⟨x1, x2, fun i2 => x3 (by omega)⟩
      refine a2 (e - 1) q1 (by omega) (by omega) c3 ⟨W, ⟨a4.1.1, fun i i0 i1 ni => ?_⟩, a4.2⟩
      by_cases yk : i = k
      · rw [yk, eq]
        refine (hz k k0 k2 (fun y16 => ?_)).symm
        exact (a3 j jb.1 jb.2).2.1 (by rw [c2]; exact y16)
      · refine a4.1.2 i i0 i1 (fun ⟨d, d1, d2⟩ => ?_)
        by_cases yd : d < b
        · exact ni ⟨d, by omega, by rw [plc_b yd]; rw [plc_b yd] at d2; exact d2⟩
        · rw [show d = b + (d - b) by omega, plc_q (by omega)] at d2
          by_cases y1 : d - b < j
          · exact ni ⟨d, by omega, by rw [show d = b + (d - b) by omega, plc_q (by omega), q1l _ y1]; exact d2⟩
          · by_cases y2 : d - b = j
            · rw [y2, c2] at d2; exact yk d2.symm
            · exact ni ⟨d - 1, by omega, by rw [show d - 1 = b + (d - b - 1) by omega, plc_q (by omega), q1g _ (by omega), show d - b - 1 + 1 = d - b by omega]; exact d2⟩
/-- where the others lie -/
def Pls (w : Int → Int) (sz : Int) (pp : Int → Int) : Prop := ∀ k : Nat, (k : Int) < sz → w k ≠ 16 → pp (k - nct w 16 k) = k
theorem nct_co {w : Int → Int} : ∀ k : Nat, nct (fun i => if w i = 16 then 1 else 0) 0 k = k - nct w 16 k
  | 0 => rfl
  | k + 1 => by
    rw [nct_w, nct_w, nct_co k]
    show _ + (if (if w k = 16 then (1 : Int) else 0) = 0 then (1 : Int) else 0) = _
    by_cases y : w k = 16
    · rw [if_pos y, if_neg (by decide)]; omega
    · rw [if_neg y, if_pos rfl]; omega
theorem Pls.pln {w : Int → Int} {sz : Int} {pp : Int → Int} (h : Pls w sz pp) (hs : 0 ≤ sz) : Plz w sz (sz - nct w 16 sz.toNat) pp := by
  have nb := nct_b w 16 sz.toNat
  have ex : ∀ c, 0 ≤ c → c < sz - nct w 16 sz.toNat → ∃ k : Nat, (k : Int) < sz ∧ w k ≠ 16 ∧ (k : Int) - nct w 16 k = c ∧ pp c = k := fun c c0 c1 => by
    obtain ⟨k, k1, k2, k3⟩ := nct_ex (w := fun i => if w i = 16 then 1 else 0) (v := 0) sz.toNat c c0 (by rw [nct_co]; omega)
    rw [nct_co] at k3
    have k4 : w k ≠ 16 := fun y => by
      have k2' : (if w k = 16 then (1 : Int) else 0) = 0 := k2
      rw [if_pos y] at k2'
      omega
    have := h k (by omega) k4
    rw [k3] at this
    exact ⟨k, by omega, k4, k3, this⟩
  refine ⟨(by omega), fun c c0 c1 => ?_, fun c c0 c1 => ?_, fun i i0 i1 hi => ?_⟩
  · obtain ⟨k, k1, k2, k3, k4⟩ := ex c c0 c1
    rw [k4]
    exact ⟨⟨by omega, by omega⟩, k2⟩
  · obtain ⟨k, k1, k2, k3, k4⟩ := ex c c0 (by omega)
    obtain ⟨l, l1, l2, l3, l4⟩ := ex (c + 1) (by omega) c1
    rw [k4, l4]
    by_cases y : k < l
    · omega
    · have m := nct_mo (w := fun i => if w i = 16 then 1 else 0) (v := 0) (a := l) (k - l)
      rw [show l + (k - l) = k by omega, nct_co, nct_co] at m
      omega
  · have t := h i.toNat (by omega) (by rw [show ((i.toNat : Nat) : Int) = i by omega]; exact hi)
    have m := nct_mo (w := fun i => if w i = 16 then 1 else 0) (v := 0) (a := i.toNat + 1) (sz.toNat - (i.toNat + 1))
    have n0 := nct_b w 16 i.toNat
    rw [show i.toNat + 1 + (sz.toNat - (i.toNat + 1)) = sz.toNat by omega, nct_co, nct_co, nct_w, if_neg (by rw [show ((i.toNat : Nat) : Int) = i by omega]; exact hi)] at m
    exact ⟨(i.toNat : Int) - nct w 16 i.toNat, by omega, by rw [t]; omega⟩
theorem m_cat (hm : rh_ms wm) {n sz : Int} {B : rhM} (hz2 : 0 ≤ sz ∧ sz ≤ 15) (hle : ∀ i, 0 ≤ i → i < sz → B 1 i ≤ 16) : ∀ (u k : Nat) (X : rhM), ((k : Int) + u) = sz → Bls (B 1) k (X 176) → Pls (B 1) k (X 179) → frx (fun c _ => c = 176 ∨ c = 179) B X → ∃ X', eS wm YX32_mend 5 61 [(0, 2, 0), (1, 0, n), (2, 0, sz), (3, 0, nct (B 1) 16 k), (4, 0, (k : Int) - nct (B 1) 16 k), (5, 0, (k : Int))] [] X 136 [(0, 2, 0), (1, 0, n), (2, 0, sz), (3, 0, nct (B 1) 16 sz.toNat), (4, 0, sz - nct (B 1) 16 sz.toNat), (5, 0, 0), (6, 0, 0)] [] X' ∧ Bls (B 1) sz (X' 176) ∧ Pls (B 1) sz (X' 179) ∧ frx (fun c _ => c = 176 ∨ c = 179) B X' := by
  intro u
  induction u with
  | zero =>
    intro k X hk hb hp g
    have ek : (k : Int) = sz := by omega
    have ek2 : sz.toNat = k := by omega
    rw [ek2]
    rw [ek] at hb hp ⊢
    refine ⟨X, eS.of (fun P HP => ?_), hb, hp, g⟩
    refine rh1.of (rX32_mend_61 hm _ _ _ _ _ _ ?_)
    exact ⟨fun y => by omega, fun _ => HP⟩
  | succ u ih =>
    intro k X hk hb hp g
    have e1 : X 1 k = B 1 k := g 1 k (by omega)
    have l1 := hle k (by omega) (by omega)
    have nb := nct_b (B 1) 16 k
    by_cases q : B 1 k = 16
    · obtain ⟨X', E, r⟩ := ih (k + 1) (rh_set X 176 (nct (B 1) 16 k) k) (by omega) (fun i i1 i2 => by
        by_cases y : i = k
        · rw [y, rh_set_s]
        · have m := nct_mo (w := B 1) (v := 16) (a := i + 1) (k - (i + 1))
          rw [show i + 1 + (k - (i + 1)) = k by omega, nct_w, if_pos i2] at m
          rw [rh_set_j (by omega)]
          exact hb i (by omega) i2) (fun i i1 i2 => by
        rw [rh_set_a (by decide)]
        by_cases y : i = k
        · rw [y] at i2; exact absurd q i2
        · exact hp i (by omega) i2) (g.st (.inl rfl))
      rw [nct_w, if_pos q, show (((k + 1 : Nat) : Int)) - (nct (B 1) 16 k + 1) = (k : Int) - nct (B 1) 16 k by omega, show ((k + 1 : Nat) : Int) = (k : Int) + 1 by omega] at E
      refine ⟨X', eS.of (fun P HP => ?_), r⟩
      refine rh1.of (rX32_mend_61 hm _ _ _ _ _ _ ?_)
      rw [e1]
      exact ⟨fun _ => ⟨⟨by omega, by omega⟩, fun y => by omega, fun _ => ⟨⟨by omega, by omega⟩, fun _ => ⟨⟨by omega, by omega⟩, ⟨by omega, by omega⟩, ⟨by omega, by omega⟩, rh1.s E HP⟩, fun y => absurd q y⟩⟩, fun y => by omega⟩
    · obtain ⟨X', E, r⟩ := ih (k + 1) (rh_set X 179 ((k : Int) - nct (B 1) 16 k) k) (by omega) (fun i i1 i2 => by
        rw [rh_set_a (by decide)]
        by_cases y : i = k
        · rw [y] at i2; exact absurd i2 q
        · exact hb i (by omega) i2) (fun i i1 i2 => by
        by_cases y : i = k
        · rw [y, rh_set_s]
        · have m := nct_mo (w := fun i => if B 1 i = 16 then 1 else 0) (v := 0) (a := i + 1) (k - (i + 1))
          rw [show i + 1 + (k - (i + 1)) = k by omega, nct_co, nct_co, nct_w, if_neg i2] at m
          rw [rh_set_j (by omega)]
          exact hp i (by omega) i2) (g.st (.inr rfl))
      rw [nct_w, if_neg q, show (((k + 1 : Nat) : Int)) - (nct (B 1) 16 k + 0) = (k : Int) - nct (B 1) 16 k + 1 by omega, show ((k + 1 : Nat) : Int) = (k : Int) + 1 by omega, Int.add_zero] at E
      refine ⟨X', eS.of (fun P HP => ?_), r⟩
      refine rh1.of (rX32_mend_61 hm _ _ _ _ _ _ ?_)
      rw [e1]
      exact ⟨fun _ => ⟨⟨by omega, by omega⟩, fun y => by omega, fun _ => ⟨⟨by omega, by omega⟩, fun y => absurd y q, fun _ => ⟨⟨by omega, by omega⟩, ⟨by omega, by omega⟩, ⟨by omega, by omega⟩, rh1.s E HP⟩⟩⟩, fun y => by omega⟩
theorem m_catF (hm : rh_ms wm) {n sz q : Int} {B : rhM} (hz2 : 0 ≤ sz ∧ sz ≤ 15) (hq : 0 ≤ q ∧ q < sz) (hb : 16 < B 1 q) (hle : ∀ i, 0 ≤ i → i < q → B 1 i ≤ 16) : ∀ (u : Nat) (k x3 x4 : Int) (X : rhM), k + u = q → 0 ≤ k → (0 ≤ x3 ∧ 0 ≤ x4 ∧ x3 + x4 = k) → frx (fun c _ => c = 176 ∨ c = 179) B X → ∃ X', (∀ P : Int → rhM → Prop, P (-1000 - q) X' → rh1 wm YX32_mend 5 61 [(0, 2, 0), (1, 0, n), (2, 0, sz), (3, 0, x3), (4, 0, x4), (5, 0, k)] [] X P) ∧ frx (fun c j => c = 176 ∨ c = 179 ∨ (c = 0 ∧ j = 2)) B X' ∧ X' 0 2 = 0 := by
  intro u
  induction u with
  | zero =>
    intro k x3 x4 X hk k0 hx g
    have ek : k = q := by omega
    rw [ek]
    refine ⟨rh_set X 0 2 0, fun P HP => ?_, (g.w (fun c j h => by omega)).st (.inr (.inr ⟨rfl, rfl⟩)), rh_set_s _ _ _ _⟩
    refine rh1.of (rX32_mend_61 hm _ _ _ _ _ _ ?_)
    rw [g 1 q (by omega)]
    exact ⟨fun _ => ⟨⟨by omega, by omega⟩, fun _ => ⟨⟨by omega, by omega⟩, HP⟩, fun y => absurd hb y⟩, fun y => by omega⟩
  | succ u ih =>
    intro k x3 x4 X hk k0 hx g
    have l1 := hle k k0 (by omega)
    by_cases y : B 1 k = 16
    · obtain ⟨X', E, r⟩ := ih (k + 1) (x3 + 1) x4 (rh_set X 176 x3 k) (by omega) (by omega) (by omega) (g.st (.inl rfl))
      refine ⟨X', fun P HP => ?_, r⟩
      refine rh1.of (rX32_mend_61 hm _ _ _ _ _ _ ?_)
      rw [g 1 k (by omega)]
      exact ⟨fun _ => ⟨⟨by omega, by omega⟩, fun y => by omega, fun _ => ⟨⟨by omega, by omega⟩, fun _ => ⟨⟨by omega, by omega⟩, ⟨by omega, by omega⟩, ⟨by omega, by omega⟩, E P HP⟩, fun z => absurd y z⟩⟩, fun y => by omega⟩
    · obtain ⟨X', E, r⟩ := ih (k + 1) x3 (x4 + 1) (rh_set X 179 x4 k) (by omega) (by omega) (by omega) (g.st (.inr rfl))
      refine ⟨X', fun P HP => ?_, r⟩
      refine rh1.of (rX32_mend_61 hm _ _ _ _ _ _ ?_)
      rw [g 1 k (by omega)]
      exact ⟨fun _ => ⟨⟨by omega, by omega⟩, fun y => by omega, fun _ => ⟨⟨by omega, by omega⟩, fun z => absurd z y, fun _ => ⟨⟨by omega, by omega⟩, ⟨by omega, by omega⟩, ⟨by omega, by omega⟩, E P HP⟩⟩⟩, fun y => by omega⟩
theorem Lx.cg {q q' q1 : Int → Int} {e : Int} (h : Lx q' q e) (hq : ∀ k, 0 ≤ k → k < e → q1 k = q' k) : Lx q1 q e := by
  obtain ⟨k, k1, k2, k3⟩ := h
  exact ⟨k, k1, fun j j0 j1 => by rw [hq j j0 (by omega)]; exact k2 j j0 j1, by rw [hq k k1.1 k1.2]; exact k3⟩
theorem m_srch (hh : rh_hs wh) (hm : rh_ms wm) {A0 B0 : rhM} {sz n b P : Int} (R : Rmn A0) (hn : 1 ≤ n ∧ n < sz ∧ n ≤ 8) (hz2 : 0 ≤ sz ∧ sz ≤ 15) (ht : ∀ i, 0 ≤ i → i < sz → 0 ≤ B0 1 i ∧ B0 1 i ≤ 16) (hbb : b = nct (B0 1) 16 sz.toNat) (hPP : P = sz - b) (bl : Bls (B0 1) sz (B0 176)) (hp : Plz (B0 1) sz P (B0 179)) :
    ∀ (u e : Nat) (B : rhM), (n + 1 - 2 * e).toNat = u → (e : Int) ≤ 9 → frx (Gmw b) B0 B → R175 B → (∀ e' q', 0 ≤ e' → e' < (e : Int) → Cmb (B0 1) sz e' q' → ¬ OKq (zt B0) sz n b (B0 176) e' q') → (∃ B', (∀ Q : Int → rhM → Prop, Q (-1) B' → rh1 wm YX32_mend 5 136 [(0, 2, 0), (1, 0, n), (2, 0, sz), (3, 0, b), (4, 0, P), (5, 0, 0), (6, 0, (e : Int))] [] B Q) ∧ frx (fun c j => Gmw b c j ∨ (c = 0 ∧ j = 2)) B0 B' ∧ R175 B' ∧ B' 0 2 = 0 ∧ ∀ e q, 0 ≤ e → 2 * e + b ≤ n → Cmb (B0 1) sz e q → ¬ OKq (zt B0) sz n b (B0 176) e q) ∨ (∃ (e' : Int) (q W : Int → Int) (B' : rhM), eS wm YX32_mend 5 136 [(0, 2, 0), (1, 0, n), (2, 0, sz), (3, 0, b), (4, 0, P), (5, 0, 0), (6, 0, (e : Int))] [] B 136 [(0, 2, 0), (1, 0, n), (2, 0, sz), (3, 0, b), (4, 0, P), (5, 0, 1), (6, 0, e' + 1)] [] B' ∧ frx (Gmw b) B0 B' ∧ R175 B' ∧ Mdo (B0 1) (zt B0) W sz n (B0 176) e' q ∧ (∀ c, 0 ≤ c → c < b + e' → B' 176 c = plc b (B0 176) q c ∧ B' 177 c = W (plc b (B0 176) q c)) ∧ ∀ i, 0 ≤ i → i < sz → (¬ ∃ c, (0 ≤ c ∧ c < b + e') ∧ plc b (B0 176) q c = i) → B' 174 i = zt B0 i) := by
  have hb := bl.blk hz2.1
  rw [← hbb] at hb
  have b0 := hb.1
  have bS := nct_b (B0 1) 16 sz.toNat
  rw [← hbb] at bS
  intro u
  induction u using Nat.strongRecOn with
  | ind u ih =>
    intro e B hu he9 f r5 hno
    by_cases le : 2 * (e : Int) + b ≤ n
    · have t1 : B 1 = B0 1 := f.cell (fun j => by unfold Gmw; omega)
      have p9 : B 179 = B0 179 := f.cell (fun j => by unfold Gmw; omega)
      have p6 : ∀ c, c < b → B 176 c = B0 176 c := fun c c1 => f 176 c (by unfold Gmw; omega)
      have zz : zt B = zt B0 := by funext i; unfold zt; rw [t1]
      have hbB : Blk (B 1) sz b (B 176) := by
        rw [t1]
        exact ⟨b0, fun c c0 c1 => by rw [p6 c c1]; exact hb.2.1 c c0 c1, fun a c a0 a1 c0 c1 h => by rw [p6 a a1, p6 c c1] at h; exact hb.2.2 a c a0 a1 c0 c1 h⟩
      obtain ⟨r, B1, E, f1, s5, rs⟩ := c_mendW hh hm (A0 := A0) (B0 := B) (sz := sz) (n := n) (b := b) (P := P) (e := (e : Int)) R ⟨hn.1, hn.2.2⟩ hz2 (by rw [t1]; exact ht) hbB (by rw [t1, p9]; exact hp) ⟨by omega, by omega, by omega⟩ (by omega) r5
      unfold Mrs Mtr at rs
      rw [zz, p9] at rs
      have f1' : frx (Gmw b) B0 B1 := f.tr f1
      have o1 : ∀ q, OKq (zt B0) sz n b (B0 176) e q → OKq (zt B0) sz n b (B 176) e q := fun q o => o.cz (by omega) (fun _ _ _ => rfl) (fun c _ c1 => p6 c c1)
      have o2 : ∀ q, OKq (zt B0) sz n b (B 176) e q → OKq (zt B0) sz n b (B0 176) e q := fun q o => o.cz (by omega) (fun _ _ _ => rfl) (fun c _ c1 => (p6 c c1).symm)
      have go : ∀ Q : Int → rhM → Prop, rh1 wm YX32_mend 5 136 [(0, 2, 0), (1, 0, n), (2, 0, sz), (3, 0, b), (4, 0, P), (5, 0, r), (6, 0, (e : Int) + 1)] [] B1 Q → rh1 wm YX32_mend 5 136 [(0, 2, 0), (1, 0, n), (2, 0, sz), (3, 0, b), (4, 0, P), (5, 0, 0), (6, 0, (e : Int))] [] B Q := fun Q HQ => by
        refine rh1.of (rX32_mend_136 hm _ _ _ _ _ _ _ ?_)
        refine ⟨fun _ => ⟨by omega, by omega⟩, fun _ => rh1.s (vX32_mend_166 hm E (LE0 rfl)) ?_, fun y => absurd ⟨rfl, by omega, by omega⟩ y⟩
        refine rh1.of (rX32_mend_169 hm _ _ _ _ _ _ _ ?_)
        exact ⟨⟨by omega, by omega⟩, HQ⟩
      rcases rs with ⟨r0, no⟩ | ⟨r1, a, ha, tr, mn⟩
      · have IH := ih _ (by omega) (e + 1) B1 rfl (by omega) f1' s5 (fun e' q' e0 e1 hq o => by
          by_cases y : e' = (e : Int)
          · rw [y] at hq o
            obtain ⟨a, a1, a2⟩ := hq.cix hp
            exact no a a1 ((o1 _ o).cg (by omega) (fun k k0 k1 => a2 k k0 k1))
          · exact hno e' q' e0 (by omega) hq o)
        rw [r0] at go
        rw [show (((e + 1 : Nat)) : Int) = (e : Int) + 1 by omega] at IH
        rcases IH with ⟨B', H, g1, g2, g3, g4⟩ | ⟨e', q, W, B', E', g⟩
        · exact .inl ⟨B', fun Q HQ => go Q (H Q HQ), g1, g2, g3, g4⟩
        · exact .inr ⟨e', q, W, B', (eS.of (fun Q HQ => go Q HQ)).tr E', g⟩
      · rcases tr with ⟨y, -⟩ | ⟨-, W, w1, w2, w3⟩
        · exact absurd y (by decide)
        rw [r1] at go
        have pe : ∀ c, plc b (B 176) (fun k => B0 179 (a k)) c = plc b (B0 176) (fun k => B0 179 (a k)) c := fun c => by
          unfold plc
          by_cases y : c < b
          · rw [if_pos y, if_pos y, p6 c y]
          · rw [if_neg y, if_neg y]
        refine .inr ⟨e, fun k => B0 179 (a k), W, B1, eS.of (fun Q HQ => go Q HQ), f1', s5, ?_, fun c c0 c1 => by rw [← pe]; exact w2 c c0 c1, fun i i0 i1 ni => w3 i i0 i1 (fun ⟨c, c1, c2⟩ => ni ⟨c, c1, by rw [← pe]; exact c2⟩)⟩
        unfold Mdo
        rw [← hbb]
        refine ⟨⟨by omega, by omega⟩, hno, ha.cmb hp, ⟨w1.1.cg (fun c _ _ => (pe c).symm), w1.2⟩, fun q' hq' o lx => ?_⟩
        obtain ⟨a', a1, a2⟩ := hq'.cix hp
        refine mn a' a1 ((o1 _ o).cg (by omega) (fun k k0 k1 => a2 k k0 k1)) ?_
        exact (Lx.ix hp ha a1).mp (lx.cg (fun k k0 k1 => a2 k k0 k1))
    · refine .inl ⟨rh_set B 0 2 0, fun Q HQ => ?_, (f.w (fun c j h => .inl h)).st (.inr ⟨rfl, rfl⟩), fun j j0 j1 => by rw [rh_set_a (by decide)]; exact r5 j j0 j1, rh_set_s _ _ _ _, fun e' q' e0 e1 hq => hno e' q' e0 (by omega) hq⟩
      refine rh1.of (rX32_mend_136 hm _ _ _ _ _ _ _ ?_)
      exact ⟨fun _ => ⟨by omega, by omega⟩, fun y => absurd y.2.1 le, fun _ => ⟨fun _ => HQ, fun y => absurd rfl y⟩⟩
theorem m_putS (hm : rh_ms wm) {B : rhM} {W pl : Int → Int} {sz m x3 x6 : Int} (hx : x3 + x6 - 1 = m) (hm0 : 0 ≤ m ∧ m ≤ 8) (hx3 : 0 ≤ x3 ∧ x3 ≤ 100 ∧ 0 ≤ x6) (hpl : ∀ c, 0 ≤ c → c < m → (B 176 c = pl c ∧ B 177 c = W (pl c)) ∧ 0 ≤ pl c ∧ pl c < 16) : ∀ (u : Nat) (k : Int) (X : rhM), k + u = m → 0 ≤ k → (∀ i, X 174 i = rh_if (∃ c, (0 ≤ c ∧ c < k) ∧ pl c = i) (W i) (B 174 i)) → frx (fun c _ => c = 174) B X → ∃ X', eS wm YX32_mend 5 191 [(0, 2, 0), (2, 0, sz), (3, 0, x3), (6, 0, x6), (7, 0, k)] [] X 191 [(0, 2, 0), (2, 0, sz), (3, 0, x3), (6, 0, x6), (7, 0, m)] [] X' ∧ (∀ i, X' 174 i = rh_if (∃ c, (0 ≤ c ∧ c < m) ∧ pl c = i) (W i) (B 174 i)) ∧ frx (fun c _ => c = 174) B X' := by
  intro u
  induction u with
  | zero =>
    intro k X hk k0 h g
    have ek : k = m := by omega
    rw [ek] at h ⊢
    exact ⟨X, eS.rf, h, g⟩
  | succ u ih =>
    intro k X hk k0 h g
    obtain ⟨⟨p1, p2⟩, p3, p4⟩ := hpl k k0 (by omega)
    obtain ⟨X', E, r⟩ := ih (k + 1) (rh_set X 174 (pl k) (W (pl k))) (by omega) (by omega) (fun i => by
      by_cases y : i = pl k
      · rw [y, rh_set_s]
        exact (rh_if_t ⟨k, by omega, rfl⟩).symm
      · rw [rh_set_j y, h i]
        by_cases q : ∃ c, (0 ≤ c ∧ c < k) ∧ pl c = i
        · obtain ⟨c, c1, c2⟩ := q
          rw [rh_if_t ⟨c, c1, c2⟩, rh_if_t ⟨c, by omega, c2⟩]
        · rw [rh_if_f q, rh_if_f (fun ⟨c, c1, c2⟩ => by
            by_cases ck : c = k
            · rw [ck] at c2; exact y c2.symm
            · exact q ⟨c, by omega, c2⟩)]) (g.st rfl)
    refine ⟨X', eS.of (fun P HP => ?_), r⟩
    refine rh1.of (rX32_mend_191 hm _ _ _ _ _ ?_)
    rw [g 176 k (by omega), p1, g 177 k (by omega), p2, hx]
    exact ⟨⟨by omega, by omega⟩, fun _ => ⟨⟨by omega, by omega⟩, ⟨by omega, by omega⟩, ⟨by omega, by omega⟩, ⟨by omega, by omega⟩, rh1.s E HP⟩, fun y => by omega⟩
theorem m_outS (hm : rh_ms wm) {B : rhM} {W : Int → Int} {sz : Int} (hz2 : 0 ≤ sz ∧ sz ≤ 15) (hW : ∀ i, 0 ≤ i → i < sz → B 174 i = W i) : ∀ (u k : Nat) (X : rhM), ((k : Int) + u) = sz → (∀ i, 0 ≤ i → i < (k : Int) → X 2 i = W i) → frx (fun c _ => c = 2) B X → ∃ X', (∀ P : Int → rhM → Prop, P (ctp (fun i => W i ≠ B 1 i) sz.toNat) (rh_set X' 0 2 0) → rh1 wm YX32_mend 5 238 [(0, 2, 0), (2, 0, sz), (7, 0, ctp (fun i => W i ≠ B 1 i) k), (8, 0, (k : Int))] [] X P) ∧ (∀ i, 0 ≤ i → i < sz → X' 2 i = W i) ∧ frx (fun c _ => c = 2) B X' := by
  intro u
  induction u with
  | zero =>
    intro k X hk h g
    have ek : (k : Int) = sz := by omega
    have ek2 : sz.toNat = k := by omega
    rw [ek2]
    rw [ek] at h ⊢
    refine ⟨X, fun P HP => ?_, h, g⟩
    refine rh1.of (rX32_mend_238 hm _ _ _ _ ?_)
    exact ⟨fun y => by omega, fun _ => HP⟩
  | succ u ih =>
    intro k X hk h g
    have cb := ctp_b (fun i => W i ≠ B 1 i) k
    obtain ⟨X', E, r⟩ := ih (k + 1) (rh_set X 2 k (W k)) (by omega) (fun i i0 i1 => by
      by_cases y : i = k
      · rw [y, rh_set_s]
      · rw [rh_set_j y]; exact h i i0 (by omega)) (g.st rfl)
    refine ⟨X', fun P HP => ?_, r⟩
    have E' := E P HP
    refine rh1.of (rX32_mend_238 hm _ _ _ _ ?_)
    rw [g 174 k (by omega), hW k (by omega) (by omega)]
    refine ⟨fun _ => ⟨⟨by omega, by omega⟩, ⟨by omega, by omega⟩, ?_⟩, fun y => by omega⟩
    (intro zq hzq; replace hzq := hzq.symm; subst hzq)
    refine ⟨⟨by omega, by omega⟩, ⟨by omega, by omega⟩, ?_⟩
    rw [rh_set_a (by decide), rh_set_a (by decide), g 174 k (by omega), hW k (by omega) (by omega), g 1 k (by omega)]
    intro v hv
    have hv2 : v = ctp (fun i => W i ≠ B 1 i) (k + 1) := hv
    rw [show ((k + 1 : Nat) : Int) = (k : Int) + 1 by omega, ← hv2] at E'
    have cb2 := ctp_b (fun i => W i ≠ B 1 i) (k + 1)
    rw [← hv2] at cb2
    exact ⟨⟨by omega, by omega⟩, ⟨by omega, by omega⟩, E'⟩
theorem op_mend (hh : rh_hs wh) (hm : rh_ms wm) {Mh Mm : rhM} (T : Rtp Mh Mm) (O : Rou Mh Mm) (R : Rmn Mh) (R5 : R175 Mm) (x1 : Int) : rC2 wh YX1_mend (5 + 9) [(2, 0), (0, x1)] Mh wm YX32_mend 5 [(2, 0), (0, x1)] Mm (fun r M' r2 M2' => r = r2 ∧ Rtp M' M2' ∧ Rou M' M2' ∧ R175 M2' ∧ frx Fcs Mh M' ∧ frx Gcs Mm M2') := by
  obtain ⟨M0, hM0⟩ : ∃ M0, M0 = rh_set Mm 0 0 0 := ⟨_, rfl⟩
  have g0 : frx Gcs Mm M0 := by rw [hM0]; exact frx.rf.st (by unfold Gcs; omega)
  have T0 : Rtp Mh M0 := by rw [hM0]; exact T.n0
  have m0 : ∀ c j, c ≠ 0 → M0 c j = Mm c j := fun c j h => by rw [hM0]; exact rh_set_a h
  have o4 : M0 0 4 = Mm 0 4 := by rw [hM0]; exact rh_set_j (by decide)
  have O0 : Rou Mh M0 := by
    obtain ⟨q1, q2, q3, q4⟩ := O
    unfold Rou
    rw [o4]
    exact ⟨q1, q2, q3, fun k k0 k1 => by rw [m0 2 k (by decide)]; exact q4 k k0 k1⟩
  have R50 : R175 M0 := fun j j0 j1 => by rw [m0 175 j (by decide)]; exact R5 j j0 j1
  by_cases c1 : (2 ≤ x1) ∧ (x1 ≤ 8)
  case neg =>
    refine ⟨-102, Mh, -102, M0, eC.of1 (rC1.of (by decide) (LE0 rfl) ?_), eC.of1 (rC1.of (by decide) (LE0 rfl) ?_), rfl, T0, O0, R50, frx.rf, g0⟩
    · refine rh1.up (rX1_mend_0 hh _ _ ?_)
      exact ⟨fun _ => ⟨rfl, rfl⟩, fun y => absurd c1 y⟩
    · refine rh1.of (rX32_mend_0 hm _ _ ?_)
      rw [← hM0]
      exact ⟨fun _ => ⟨rfl, rfl⟩, fun y => absurd c1 y⟩
  obtain ⟨s, hs⟩ : ∃ s, s = M0 0 2 := ⟨_, rfl⟩
  obtain ⟨-, t2, t3, t4⟩ := id T0
  rw [← hs] at t2 t3 t4
  have OM : ∀ {A B : rhM}, (∀ j, j = 1 → A 4 j = Mh 4 j) → (∀ k, A 5 k = Mh 5 k) → B 0 4 = M0 0 4 → (∀ k, B 2 k = M0 2 k) → Rou A B := fun h1 h2 h3 h4 => by
    obtain ⟨q1, q2, q3, q4⟩ := O0
    unfold Rou
    rw [h1 1 rfl, h3]
    exact ⟨q1, q2, q3, fun k k0 k1 => by rw [h2, h4]; exact q4 k k0 k1⟩
  obtain ⟨lo, hlo⟩ : ∃ lo, lo = rh_if (4 < x1 + 1) (x1 + 1) 4 := ⟨_, rfl⟩
  have lob : 4 ≤ lo ∧ x1 + 1 ≤ lo ∧ (lo = 4 ∨ lo = x1 + 1) := by
    rw [hlo]
    by_cases y : 4 < x1 + 1
    · rw [rh_if_t y]; omega
    · rw [rh_if_f y]; omega
  obtain ⟨o, A1, K, f1, cs⟩ := h_signs hh T0 (lo := lo) (hi := 15) (gr := 16) (by omega)
  rw [← hs] at cs
  have fA2 : frx Fcs Mh (rh_set A1 1 2 0) := (f1.w (fun c j h => .inl h)).st (.inr (.inr (.inr ⟨rfl, rfl⟩)))
  have a4 : ∀ j, rh_set A1 1 2 0 4 j = Mh 4 j := fun j => by rw [rh_set_a (by decide)]; exact f1 4 j (by unfold Fsg; omega)
  have a5 : ∀ j, rh_set A1 1 2 0 5 j = Mh 5 j := fun j => by rw [rh_set_a (by decide)]; exact f1 5 j (by unfold Fsg; omega)
  have SH : ∀ P : Int → rhM → Prop, rh1 wh YX1_mend (5 + 9) 29 [(0, 2, 0), (1, 0, x1)] [(0, 16), (0, 15), (0, lo), (2, 0)] Mh P → rh1 wh YX1_mend (5 + 9) 0 [(0, 2, 0), (1, 0, x1)] [] Mh P := fun P HP => by
    refine rh1.up (rX1_mend_0 hh _ _ ?_)
    rw [← hlo]
    exact ⟨fun y => absurd c1 y, fun _ => ⟨⟨by omega, by omega⟩, HP⟩⟩
  by_cases hin : lo ≤ s ∧ s ≤ 15
  case neg =>
    rcases cs with ⟨ho, -⟩ | ⟨h, -⟩
    · rw [ho] at K
      refine ⟨-102, rh_set A1 1 2 0, -102, rh_set M0 0 2 0, eC.of1 (rC1.of (by decide) (LE0 rfl) (SH _ ?_)), eC.of1 (rC1.of (by decide) (LE0 rfl) ?_), rfl, Rtp.use (Mh := Mh) (Mm := Mm) (rh_set_s _ _ _ _) (rh_set_s _ _ _ _), OM (fun j _ => a4 j) a5 (rh_set_j (by decide)) (fun k => rh_set_a (by decide)), fun j j0 j1 => by rw [rh_set_a (by decide)]; exact R50 j j0 j1, fA2, g0.st (by unfold Gcs; omega)⟩
      · refine rh1.s (w_mn29 hh (by decide) K (LE0 rfl)) ?_
        refine rh1.up (rX1_mend_32 hh _ _ _ ?_)
        exact ⟨fun _ => ⟨rfl, rfl⟩, fun y => absurd rfl y⟩
      · refine rh1.of (rX32_mend_0 hm _ _ ?_)
        rw [← hM0, ← hs]
        refine ⟨fun y => absurd c1 y, fun _ => ?_⟩
        (intro zq hzq; replace hzq := hzq.symm; subst hzq)
        exact ⟨fun _ => ⟨rfl, rfl⟩, fun y => absurd (by omega) y⟩
    · exact absurd h hin
  have SM : ∀ P : Int → rhM → Prop, rh1 wm YX32_mend 5 61 [(0, 2, 0), (1, 0, x1), (2, 0, s), (3, 0, 0), (4, 0, 0), (5, 0, 0)] [] M0 P → rh1 wm YX32_mend 5 0 [(0, 2, 0), (1, 0, x1)] [] Mm P := fun P HP => by
    refine rh1.of (rX32_mend_0 hm _ _ ?_)
    rw [← hM0, ← hs]
    refine ⟨fun y => absurd c1 y, fun _ => ?_⟩
    (intro zq hzq; replace hzq := hzq.symm; subst hzq)
    exact ⟨fun y => by omega, fun _ => HP⟩
  rcases cs with ⟨-, h⟩ | ⟨-, ⟨ho, q, q1, q2, q3, q4⟩ | ⟨ho, z3, z6⟩⟩
  · exact absurd hin h
  · rw [ho] at K
    obtain ⟨B', HM, gB, b2⟩ := m_catF hm (n := x1) (sz := s) (q := q) (B := M0) ⟨by omega, by omega⟩ q1 q3 q4 q.toNat 0 0 0 M0 (by omega) (by decide) (by decide) frx.rf
    refine ⟨-1000 - q, rh_set A1 1 2 0, -1000 - q, B', eC.of1 (rC1.of (by decide) (LE0 rfl) (SH _ ?_)), eC.of1 (rC1.of (by decide) (LE0 rfl) (SM _ (HM _ ⟨rfl, rfl⟩))), rfl, Rtp.use (Mh := Mh) (Mm := Mm) (rh_set_s _ _ _ _) b2, OM (fun j _ => a4 j) a5 (gB 0 4 (by omega)) (fun k => gB 2 k (by omega)), fun j j0 j1 => by rw [gB 175 j (by omega)]; exact R50 j j0 j1, fA2, g0.tr (gB.w (fun c j h => by unfold Gcs; omega))⟩
    refine rh1.s ((eG.up 9 (vcX1_mend_29 hh K (LE0 rfl))).toS) ?_
    refine rh1.s ((eG.less (L' := [(0, 2, 0)]) (fun z hz => by rw [List.mem_singleton] at hz; rw [hz]; exact List.mem_cons_self)).toS) ?_
    refine rh1.up (rX1_mend_59 hh _ ?_)
    rw [q2]
    exact ⟨⟨by omega, by omega⟩, rfl, rfl⟩
  rw [ho] at K
  obtain ⟨A2, hA2⟩ : ∃ A2, A2 = rh_set A1 1 2 0 := ⟨_, rfl⟩
  rw [← hA2] at fA2 a4 a5
  have y3 : A2 213 3 = s := by rw [hA2, rh_set_a (by decide)]; exact z3
  have y6 : ∀ i, 0 ≤ i → i < s → A2 216 i = M0 1 i := fun i i0 i1 => by rw [hA2, rh_set_a (by decide)]; exact (z6 i i0 i1).1
  have tl : ∀ i, 0 ≤ i → i < s → 0 ≤ M0 1 i ∧ M0 1 i ≤ 16 := fun i i0 i1 => ⟨(t4 i i0 i1).2.1.1, (z6 i i0 i1).2⟩
  have rA : ∀ c j, c = 214 ∨ c = 215 → A2 c j = Mh c j := fun c j h => by
    rw [hA2, rh_set_a (by omega), f1 c j (by unfold Fsg; omega)]
  have R4 : Rmn A2 := ⟨fun i i0 i1 => by rw [rA 214 i (.inl rfl)]; exact R.1 i i0 i1, fun i i0 i1 => by rw [rA 215 i (.inr rfl)]; exact R.2 i i0 i1⟩
  obtain ⟨r, A5, pb, EM, fM, bl, out⟩ := c_mendH hh hm (A := A2) (sz := s) (n := x1) R4 ⟨by omega, by omega⟩ y3 ⟨by omega, by omega⟩ (fun i i0 i1 => by rw [y6 i i0 i1]; exact tl i i0 i1)
  obtain ⟨B0, F0, bl2, pl2, k0⟩ := m_cat hm (n := x1) (sz := s) (B := M0) ⟨by omega, by omega⟩ (fun i i0 i1 => (tl i i0 i1).2) s.toNat 0 M0 (by omega) (fun k k1 _ => by omega) (fun k k1 _ => by omega) frx.rf
  have t0 : B0 1 = M0 1 := k0.cell (fun j => by omega)
  have ww : ∀ i, 0 ≤ i → i < s → A2 216 i = B0 1 i := fun i i0 i1 => by rw [t0]; exact y6 i i0 i1
  have zz : ∀ i, 0 ≤ i → i < s → zw A2 i = zt B0 i := fun i i0 i1 => by
    have r := tl i i0 i1
    unfold zw zt
    rw [ww i i0 i1, t0]
    by_cases y : M0 1 i = 16
    · rw [rh_if_t y, rh_if_t (by omega)]
    · rw [rh_if_f y, rh_if_f (by omega)]
  have nN := nct_sz ww (k := s.toNat) (by omega)
  rw [← t0] at bl2 pl2 F0
  have blA : Bls (B0 1) s pb := bl.cw ww
  have R5B : R175 B0 := fun j j0 j1 => by rw [k0 175 j (by omega)]; exact R50 j j0 j1
  have tB : ∀ i, 0 ≤ i → i < s → 0 ≤ B0 1 i ∧ B0 1 i ≤ 16 := fun i i0 i1 => by rw [t0]; exact tl i i0 i1
  have S := m_srch hh hm (A0 := Mh) (B0 := B0) (sz := s) (n := x1) (b := nct (B0 1) 16 s.toNat) (P := s - nct (B0 1) 16 s.toNat) R ⟨by omega, by omega, by omega⟩ ⟨by omega, by omega⟩ tB rfl rfl bl2 (pl2.pln (by omega)) _ 0 B0 rfl (by decide) frx.rf R5B (fun e' q' e0 e1 _ => by omega)
  have nb := nct_b (B0 1) 16 s.toNat
  have F0' : ∀ Q : Int → rhM → Prop, rh1 wm YX32_mend 5 136 [(0, 2, 0), (1, 0, x1), (2, 0, s), (3, 0, nct (B0 1) 16 s.toNat), (4, 0, s - nct (B0 1) 16 s.toNat), (5, 0, 0), (6, 0, 0)] [] B0 Q → rh1 wm YX32_mend 5 0 [(0, 2, 0), (1, 0, x1)] [] Mm Q := fun Q HQ => SM Q (rh1.s F0 HQ)
  have hh1 : rh1 wh YX1_mend (5 + 9) 96 [(0, 2, 0)] [(0, r)] A5 (fun r' M' => r' = r' ∧ M' = M') → True := fun _ => trivial
  have SH2 : ∀ P : Int → rhM → Prop, rh1 wh YX1_mend (5 + 9) 96 [(0, 2, 0)] [(0, r)] A5 P → rh1 wh YX1_mend (5 + 9) 0 [(0, 2, 0), (1, 0, x1)] [] Mh P := fun P HP => SH P (by
    refine rh1.s (w_mn29 hh (by decide) K (LE0 rfl)) ?_
    refine rh1.up (rX1_mend_32 hh _ _ _ ?_)
    rw [← hA2]
    exact ⟨fun y => absurd y (by decide), fun _ => rh1.s ((eG.less (L' := [(0, 2, 0)]) (fun z hz => by rw [List.mem_singleton] at hz; rw [hz]; exact List.mem_cons_self)).toS) (rh1.s (w_mn93 hh (by decide) EM (LE0 rfl)) HP)⟩)
  have fA5 : frx Fcs Mh A5 := fA2.tr (fM.w (fun c j h => .inr (.inl h)))
  have b12 : A5 1 2 = 0 := by rw [fM 1 2 (by unfold Fmd; omega), hA2, rh_set_s]
  rcases out with ⟨hr, no⟩ | ⟨e, q, W, md, hr, fin⟩
  · rcases S with ⟨B', H, fB, r5, b2, -⟩ | ⟨e', q', W', B', -, -, -, md', -, -⟩
    · refine ⟨-1, A5, -1, B', eC.of1 (rC1.of (by decide) (LE0 rfl) (SH2 _ ?_)), eC.of1 (rC1.of (by decide) (LE0 rfl) (F0' _ (H _ ⟨rfl, rfl⟩))), rfl, Rtp.use (Mh := Mh) (Mm := Mm) b12 b2, OM (fun j _ => by rw [fM 4 j (by unfold Fmd; omega)]; exact a4 j) (fun k => by rw [fM 5 k (by unfold Fmd; omega)]; exact a5 k) (by rw [fB 0 4 (by unfold Gmw; omega), k0 0 4 (by omega)]) (fun k => by rw [fB 2 k (by unfold Gmw; omega), k0 2 k (by omega)]), r5, fA5, g0.tr ((k0.w (fun c j h => by unfold Gcs; omega)).tr (fB.w (fun c j h => by unfold Gmw at h; unfold Gcs; omega)))⟩
      refine rh1.up (rX1_mend_96 hh _ _ ?_)
      rw [hr]
      exact ⟨fun y => absurd rfl y, fun _ => ⟨rfl, rfl⟩⟩
    · obtain ⟨m1, m2, m3, m4, m5⟩ := md'
      refine absurd ?_ (no e' q' m1.1 (by rw [nN]; exact m1.2) (m3.cw (fun i i0 i1 => (ww i i0 i1).symm)))
      rw [nN]
      exact OKq.cz m1.1 (fun i i0 i1 => (zz i i0 i1).symm) (fun c c0 c1 => blA.eq bl2 c0 c1) ⟨W', m4.1, m4.2⟩
  have md2 := md.cg (by omega) ww zz
  rcases S with ⟨B', -, -, -, -, no⟩ | ⟨e', q', W', B1, E1, fB, r5, md', pv, sy⟩
  · obtain ⟨m1, m2, m3, m4, m5⟩ := md2
    exact absurd (OKq.cz m1.1 (fun _ _ _ => rfl) (fun c c0 c1 => bl2.eq blA c0 c1) ⟨W, m4.1, m4.2⟩) (no e q m1.1 m1.2 m3)
  obtain ⟨ee, WW⟩ := md2.one (W' := W') (e' := e') (q' := q') ⟨by omega, by omega⟩ (by omega) blA bl2 md'
  have cn := md'.cnt (by omega) bl2 tB (fun i i0 i1 h => by unfold zt; have := tB i i0 i1; exact rh_if_f (by omega))
  rw [nN, ee] at hr
  obtain ⟨m1, m2, m3, m4, m5⟩ := md'
  obtain ⟨b, hbb⟩ : ∃ b, b = nct (B0 1) 16 s.toNat := ⟨_, rfl⟩
  have hbk := bl2.blk (w := B0 1) (sz := s) (by omega)
  rw [← hbb] at m1 m4 pv sy E1 cn hr nb hbk F0'
  have pr : ∀ c, 0 ≤ c → c < b + e' → 0 ≤ plc b (B0 176) q' c ∧ plc b (B0 176) q' c < s := fun c c0 c1 => plc_r hbk m3 c0 c1
  obtain ⟨B2, E2, s2, g2⟩ := m_putS hm (B := B1) (W := W') (pl := plc b (B0 176) q') (sz := s) (m := b + e') (x3 := b) (x6 := e' + 1) (by omega) ⟨by omega, by omega⟩ ⟨by omega, by omega, by omega⟩ (fun c c0 c1 => by
    have := pr c c0 c1
    exact ⟨pv c c0 c1, this.1, by omega⟩) (b + e').toNat 0 B1 (by omega) (by decide) (fun i => (rh_if_f (fun ⟨c, c1, _⟩ => by omega)).symm) frx.rf
  obtain ⟨B3, hB3⟩ : ∃ B3, B3 = rh_set B2 0 4 s := ⟨_, rfl⟩
  have mN : (((b + e').toNat : Nat) : Int) = b + e' := by omega
  have sW : ∀ i, 0 ≤ i → i < s → B3 174 i = W' i := fun i i0 i1 => by
    rw [hB3, rh_set_a (by decide), s2 i]
    by_cases y : ∃ c, (0 ≤ c ∧ c < b + e') ∧ plc b (B0 176) q' c = i
    · rw [rh_if_t y]
    · rw [rh_if_f y, sy i i0 i1 y]
      exact (m4.1.2 i i0 i1 (fun ⟨c, c1, c2⟩ => y ⟨c, by omega, c2⟩)).symm
  have b31 : B3 1 = B0 1 := by
    funext j
    rw [hB3, rh_set_a (by decide), g2 1 j (by omega), fB 1 j (by unfold Gmw; omega)]
  obtain ⟨B4, H4, s4, g4⟩ := m_outS hm (B := B3) (W := W') (sz := s) ⟨by omega, by omega⟩ sW s.toNat 0 B3 (by omega) (fun i i0 i1 => by omega) frx.rf
  rw [b31, cn] at H4
  have A53 : A5 213 3 = s := by rw [fM 213 3 (by unfold Fmd; omega)]; exact y3
  obtain ⟨A6, EW, fW, wo⟩ := c_write hh (A0 := A5) (n := s) A53 ⟨by omega, by omega⟩
  have outR : Rou (m_end A6 s) (rh_set B4 0 2 0) := wo.fin ⟨by omega, by omega⟩ (by rw [rh_set_j (by decide), g4 0 4 (by omega), hB3, rh_set_s]) (fun k k0 k1 => by
    have := m4.1.1 k k0 k1
    unfold R16 at this
    rw [rh_set_a (by decide), s4 k k0 k1, fin k k0 k1, WW k k0 k1]
    exact ⟨rfl, ⟨by omega, by omega⟩⟩)
  have fin12 : m_end A6 s 1 2 = 0 := by rw [(m_endF (n := s) fW) 1 2 (by unfold Fou; omega)]; exact b12
  refine ⟨b + e', m_end A6 s, b + e', rh_set B4 0 2 0, eC.of1 (rC1.of (by decide) (LE0 rfl) (SH2 _ ?_)), eC.of1 (rC1.of (by decide) (LE0 rfl) (F0' _ (rh1.s E1 ?_))), rfl, Rtp.use (Mh := Mh) (Mm := Mm) fin12 (rh_set_s _ _ _ _), outR, fun j j0 j1 => ?_, fA5.tr ((m_endF fW).w (fun c j h => .inr (.inr (.inl h)))), ?_⟩
  · refine rh1.up (rX1_mend_96 hh _ _ ?_)
    rw [hr]
    refine ⟨fun _ => rh1.s (w_mn103 hh (by decide) EW (LE0 rfl)) ?_, fun y => by omega⟩
    refine rh1.up (rX1_mend_106 hh _ _ ?_)
    exact ⟨rfl, rfl⟩
  · refine rh1.of (rX32_mend_136 hm _ _ _ _ _ _ _ ?_)
    refine ⟨fun y => absurd y (by decide), fun y => absurd y.1 (by decide), fun _ => ⟨fun y => absurd y (by decide), fun _ => rh1.s E2 ?_⟩⟩
    refine rh1.of (rX32_mend_191 hm _ _ _ _ _ ?_)
    rw [← hB3]
    exact ⟨⟨by omega, by omega⟩, fun y => by omega, fun _ => H4 _ ⟨rfl, rfl⟩⟩
  · rw [rh_set_a (by decide), g4 175 j (by omega), hB3, rh_set_a (by decide), g2 175 j (by omega)]
    exact r5 j j0 j1
  · exact (g0.tr ((k0.w (fun c j h => by unfold Gcs; omega)).tr ((fB.w (fun c j h => by unfold Gmw at h; unfold Gcs; omega)).tr ((g2.w (fun c j h => by unfold Gcs; omega)).tr ((by rw [hB3]; exact frx.rf.st (by unfold Gcs; omega) : frx Gcs B2 B3).tr (g4.w (fun c j h => by unfold Gcs; omega))))))).st (by unfold Gcs; omega)
end MendO
