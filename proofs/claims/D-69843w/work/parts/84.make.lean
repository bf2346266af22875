/-! ===== LAYER 2: all lines of the house (make, first half) ===== -/
section Make
variable {wh wm : rhW} {L T R B : Int → Int} {np : Int}
/-- how many lie below k -/
def cu (f : Int → Int) (k : Int) : Nat → Int
  | 0 => 0
  | n + 1 => cu f k n + (if 0 ≤ f n ∧ f n < k then 1 else 0)
theorem cu_b (f : Int → Int) (k : Int) : ∀ n : Nat, 0 ≤ cu f k n ∧ cu f k n ≤ n
  | 0 => ⟨Int.le_refl _, Int.le_refl _⟩
  | n + 1 => by
    have := cu_b f k n
    simp only [cu]
    split <;> omega
theorem cu_s (f : Int → Int) {k : Int} (k0 : 0 ≤ k) : ∀ n : Nat, cu f (k + 1) n = cu f k n + nct f k n
  | 0 => rfl
  | n + 1 => by
    simp only [cu, nct]
    rw [cu_s f k0 n]
    by_cases q : f n = k
    · rw [if_pos (show 0 ≤ f n ∧ f n < k + 1 by omega), if_neg (show ¬ (0 ≤ f n ∧ f n < k) by omega), if_pos q]; omega
    · rw [if_neg q]
      by_cases r : 0 ≤ f n ∧ f n < k
      · rw [if_pos r, if_pos (show 0 ≤ f n ∧ f n < k + 1 by omega)]; omega
      · rw [if_neg r, if_neg (show ¬ (0 ≤ f n ∧ f n < k + 1) by omega)]; omega
theorem nct_cg2 {f g : Int → Int} {c d : Int} : ∀ t : Nat, (∀ j : Int, 0 ≤ j → j < t → (f j = c ↔ g j = d)) → nct f c t = nct g d t
  | 0 => fun _ => rfl
  | t + 1 => fun h => by
    simp only [nct]
    rw [nct_cg2 t (fun j a b => h j a (by omega))]
    have hk := h t (by omega) (by omega)
    by_cases q : f t = c
    · rw [if_pos q, if_pos (hk.mp q)]
    · rw [if_neg q, if_neg (fun z => q (hk.mpr z))]
theorem LnB.mono {M : rhM} {y l b : Int} {g : Int → Int} {t : Nat} (h : LnB L T B np M y l b g t) : ∀ d u : Nat, u + d ≤ t → M (y + 13) (l + u) ≤ M (y + 13) (l + (u + d : Nat))
  | 0 => fun u _ => Int.le_refl _
  | d + 1 => fun u hu => by
    have h1 := h.mono d u (by omega)
    have h2 := (h.1 (u + d) (by omega)).2.2.2.2.2.1
    have nb := nct_b (gq T L np g (u + d)) (nxg T L np (gq T L np g (u + d))) np.toNat
    rw [show l + ((u + (d + 1) : Nat) : Int) = l + ((u + d : Nat) : Int) + 1 by omega]
    omega
theorem LnB.fx {M M' : rhM} {y l b : Int} {g : Int → Int} {t : Nat} (h : LnB L T B np M y l b g t) (h1 : ∀ a j : Int, y + 9 ≤ a → a ≤ y + 12 → l ≤ j → j < l + t → M' a j = M a j) (h2 : ∀ j, l ≤ j → j ≤ l + t → M' (y + 13) j = M (y + 13) j) (h3 : ∀ j, j < M (y + 13) (l + t) → M' (y + 15) j = M (y + 15) j) : LnB L T B np M' y l b g t := by
  refine ⟨fun u hu => ?_, h.2⟩
  obtain ⟨a1, a2⟩ := h.1 u hu
  have m := h.mono (t - (u + 1)) (u + 1) (by omega)
  rw [show (u + 1 + (t - (u + 1)) : Nat) = t by omega, show l + ((u + 1 : Nat) : Int) = l + u + 1 by omega] at m
  refine ⟨a1, a2.fx (h1 _ _ (by omega) (by omega) (by omega) (by omega)) (h1 _ _ (by omega) (by omega) (by omega) (by omega)) (h1 _ _ (by omega) (by omega) (by omega) (by omega)) (h1 _ _ (by omega) (by omega) (by omega) (by omega)) (h2 _ (by omega) (by omega)) (h2 _ (by omega) (by omega)) (fun j hj => h3 j (by omega))⟩
/-- the lines from block k on -/
def Fut (L T B : Int → Int) (np : Int) (M : rhM) (y : Int) (blk ord : Int → Int) : Nat → Int → Int → Prop
  | 0, _, l => M y 10 = l
  | m + 1, k, l => ∃ (g : Int → Int) (t : Nat), Grp T B blk (ord k) np g ∧ LnB L T B np M y l (ord k) g t ∧ M (y + 6) (ord k) = t ∧ l + t ≤ M y 10 ∧ M (y + 13) (l + t) ≤ M (y + 13) (M y 10) ∧ M (y + 13) l ≤ M (y + 13) (l + t) ∧ Fut L T B np M y blk ord m (k + 1) (l + t)
theorem Fut.fx {M M' : rhM} {y : Int} {blk ord : Int → Int} (h0 : M' y 10 = M y 10) (h1 : ∀ a : Int, y + 9 ≤ a → a ≤ y + 13 → M' a = M a) (h3 : M' (y + 15) = M (y + 15)) (h6 : M' (y + 6) = M (y + 6)) : ∀ (m : Nat) (k l : Int), Fut L T B np M y blk ord m k l → Fut L T B np M' y blk ord m k l
  | 0 => fun k l h => by
    show M' y 10 = l
    rw [h0]; exact h
  | m + 1 => fun k l h => by
    obtain ⟨g, t, a1, a2, a3, a4, a5, a6, a7⟩ := h
    refine ⟨g, t, a1, a2.fx (fun a j b0 b1 _ _ => by rw [h1 a (by omega) (by omega)]) (fun j _ _ => by rw [h1 _ (by omega) (by omega)]) (fun j _ => by rw [h3]), by rw [h6]; exact a3, by rw [h0]; exact a4, by rw [h0, h1 _ (by omega) (by omega)]; exact a5, by rw [h1 _ (by omega) (by omega)]; exact a6, Fut.fx h0 h1 h3 h6 m _ _ a7⟩
/-- the lines' blocks lie one after another -/
theorem Fut.ix {M : rhM} {y : Int} {blk ord : Int → Int} : ∀ (m : Nat) (k l : Int), Fut L T B np M y blk ord m k l → ∃ ix : Int → Int, (∀ u, l ≤ u → u < M y 10 → k ≤ ix u ∧ ix u < k + m ∧ M (y + 9) u = ord (ix u)) ∧ (∀ u u', l ≤ u → u ≤ u' → u' < M y 10 → ix u ≤ ix u')
  | 0 => fun k l h => by
    have h : M y 10 = l := h
    exact ⟨fun _ => 0, fun u u0 u1 => by omega, fun u u' u0 u1 u2 => by omega⟩
  | m + 1 => fun k l h => by
    obtain ⟨g, t, a1, a2, a3, a4, a5, a6, a7⟩ := h
    obtain ⟨ix, b1, b2⟩ := Fut.ix m (k + 1) (l + t) a7
    refine ⟨fun u => if u < l + t then k else ix u, fun u u0 u1 => ?_, fun u u' u0 u1 u2 => ?_⟩
    · show k ≤ (if u < l + t then k else ix u) ∧ (if u < l + t then k else ix u) < k + ((m + 1 : Nat) : Int) ∧ M (y + 9) u = ord (if u < l + t then k else ix u)
      by_cases q : u < l + t
      · rw [if_pos q]
        have d := (a2.1 (u - l).toNat (by omega)).2.1
        rw [show l + ((u - l).toNat : Int) = u by omega] at d
        exact ⟨by omega, by omega, d⟩
      · rw [if_neg q]
        obtain ⟨c1, c2, c3⟩ := b1 u (by omega) u1
        exact ⟨by omega, by omega, c3⟩
    · show (if u < l + t then k else ix u) ≤ (if u' < l + t then k else ix u')
      by_cases q : u < l + t
      · rw [if_pos q]
        by_cases q' : u' < l + t
        · rw [if_pos q']; exact Int.le_refl _
        · rw [if_neg q']; have := (b1 u' (by omega) u2).1; omega
      · rw [if_neg q, if_neg (show ¬ u' < l + t by omega)]
        exact b2 u u' (by omega) u1 u2
theorem Fut.cvx {M : rhM} {y n : Int} {blk ord : Int → Int} (hoi : ∀ k k', 0 ≤ k → k < n → 0 ≤ k' → k' < n → ord k = ord k' → k = k') {m : Nat} (h : Fut L T B np M y blk ord m 0 0) (hn : (m : Int) ≤ n) : ∀ u u' u'', 0 ≤ u → u ≤ u' → u' ≤ u'' → u'' < M y 10 → M (y + 9) u = M (y + 9) u'' → M (y + 9) u' = M (y + 9) u := by
  obtain ⟨ix, b1, b2⟩ := Fut.ix m 0 0 h
  intro u u' u'' u0 u1 u2 u3 e
  obtain ⟨c1, c2, c3⟩ := b1 u u0 (by omega)
  obtain ⟨d1, d2, d3⟩ := b1 u' (by omega) (by omega)
  obtain ⟨e1, e2, e3⟩ := b1 u'' (by omega) (by omega)
  have p1 := b2 u u' u0 u1 (by omega)
  have p2 := b2 u' u'' (by omega) u2 u3
  have := hoi _ _ c1 (by omega) e1 (by omega) (by rw [← c3, ← e3, e])
  rw [d3, c3, show ix u' = ix u by omega]
/-- the house's lines, block after block -/
theorem h_lines (hh : rh_hs wh) {x n : Int} {blk ord pl : Int → Int} (hx : rh_bl wh 0 x 0) (hy : rh_bl wh 1 (x + 9) 0) (hx2 : 100 ≤ x) (hnp : 0 ≤ np ∧ np ≤ 300) (hpb : Pcb L T R B np) (hn : n ≤ 20) (ho : ∀ k, 0 ≤ k → k < n → 0 ≤ ord k ∧ ord k < n) (hpl : ∀ i k, 0 ≤ i → i < np → 0 ≤ k → k < n → (pl i = k ↔ blk i = ord k)) (hoi : ∀ k k', 0 ≤ k → k < n → 0 ≤ k' → k' < n → ord k = ord k' → k = k') :
    ∀ (m : Nat) (k : Int) (M : rhM), k + m = n → 0 ≤ k → M (x + 9) 1 = n → PcH M x np L T R B → (∀ i, M (x + 9 + 24) i = blk i) → (∀ i, 0 ≤ i → i < n → M (x + 9 + 7) i = ord i) → (0 ≤ M (x + 9) 10 ∧ M (x + 9) 10 ≤ 60) → (∀ k', k ≤ k' → k' < n → M (x + 9 + 6) (ord k') = 0) → 0 ≤ M (x + 9 + 13) (M (x + 9) 10) → M (x + 9 + 13) (M (x + 9) 10) ≤ cu pl k np.toNat → (∀ q q', 0 ≤ q → q < q' → q' < M (x + 9 + 13) (M (x + 9) 10) → M (x + 9 + 15) q ≠ M (x + 9 + 15) q') → (∀ q, 0 ≤ q → q < M (x + 9 + 13) (M (x + 9) 10) → 0 ≤ M (x + 9 + 15) q ∧ M (x + 9 + 15) q < np ∧ 0 ≤ pl (M (x + 9 + 15) q) ∧ pl (M (x + 9 + 15) q) < k) →
      ∃ M', eS wh YX30_make 6 117 [(0, 2, x + 9), (1, 2, x), (6, 0, k)] [] M 147 [(0, 2, x + 9), (1, 2, x), (6, 0, 0)] [] M' ∧ frx (fun c j => (c = x + 9 ∧ j = 10) ∨ ((c = x + 9 + 9 ∨ c = x + 9 + 10 ∨ c = x + 9 + 11 ∨ c = x + 9 + 12) ∧ M (x + 9) 10 ≤ j) ∨ (c = x + 9 + 13 ∧ M (x + 9) 10 < j) ∨ (c = x + 9 + 15 ∧ M (x + 9 + 13) (M (x + 9) 10) ≤ j) ∨ c = x + 9 + 25 ∨ (c = x + 9 + 6 ∧ ∃ k', k ≤ k' ∧ k' < n ∧ j = ord k')) M M' ∧ Fut L T B np M' (x + 9) blk ord m k (M (x + 9) 10) ∧ (M (x + 9) 10 ≤ M' (x + 9) 10 ∧ M' (x + 9) 10 ≤ 60) ∧ M (x + 9 + 13) (M (x + 9) 10) ≤ M' (x + 9 + 13) (M' (x + 9) 10) ∧ M' (x + 9 + 13) (M' (x + 9) 10) ≤ 300 ∧ (∀ q q', 0 ≤ q → q < q' → q' < M' (x + 9 + 13) (M' (x + 9) 10) → M' (x + 9 + 15) q ≠ M' (x + 9 + 15) q') ∧ (∀ q, 0 ≤ q → q < M' (x + 9 + 13) (M' (x + 9) 10) → 0 ≤ M' (x + 9 + 15) q ∧ M' (x + 9 + 15) q < np)
  | 0 => fun k M hk k0 h1 hP hblk hord hl h6 hf0 hf hI hQ => by
    refine ⟨M, ?_, frx.rf, rfl, ⟨Int.le_refl _, hl.2⟩, Int.le_refl _, ?_, hI, fun q q0 q1 => ⟨(hQ q q0 q1).1, (hQ q q0 q1).2.1⟩⟩
    · refine eS.of (fun P HP => ?_)
      refine rh1.of (rX30_make_117 hh _ _ _ _ hy hx ?_)
      rw [h1]
      exact ⟨fun z => by omega, fun _ => HP⟩
    · have := cu_b pl k np.toNat
      omega
  | m + 1 => fun k M hk k0 h1 hP hblk hord hl h6 hf0 hf hI hQ => by
    have ob := ho k k0 (by omega)
    have cs := cu_s pl k0 np.toNat
    have cb := cu_b pl (k + 1) np.toNat
    have en : nct pl k np.toNat = nct blk (ord k) np.toNat := nct_cg2 np.toNat (fun j j0 j1 => hpl j k j0 (by omega) k0 (by omega))
    have eb : M (x + 9 + 24) = blk := funext hblk
    obtain ⟨r, M1, E1, f1, g, t, G1, l1, l1', LB, c1, c2, c6, cI, cR⟩ := c_findLines hh (b := ord k) hx hy hx2 M hP hnp hpb hl ⟨by omega, by omega⟩ (h6 k (by omega) (by omega)) hf0 (by rw [eb]; omega) hI (fun q q0 q1 => by
      obtain ⟨a1, a2, a3, a4⟩ := hQ q q0 q1
      refine ⟨a1, a2, fun z => ?_⟩
      rw [eb] at z
      have := (hpl _ k a1 a2 k0 (by omega)).mpr z
      omega)
    rw [eb] at G1 c2 cR
    have hP1 : PcH M1 x np L T R B := hP.fx (f1 x 6 (by omega)) (fun a a0 a1 => f1.cell (fun j => (by omega)))
    obtain ⟨M', e2, f2, F2, d1, d2, d3, d4, d5⟩ := h_lines hh hx hy hx2 hnp hpb hn ho hpl hoi m (k + 1) M1 (by omega) (by omega) (by rw [f1 _ _ (by omega), h1]) hP1 (fun i => by rw [f1 _ _ (by omega)]; exact hblk i) (fun i i0 i1 => by rw [f1 _ _ (by omega)]; exact hord i i0 i1) (by rw [l1]; omega) (fun k' k0' k1' => by
      rw [f1 _ _ (fun z => ?_)]
      · exact h6 k' (by omega) k1'
      · have : ord k' = ord k := by omega
        have := hoi k' k (by omega) k1' k0 (by omega) this
        omega) (by omega) (by omega) cI (fun q q0 q1 => by
      by_cases z : q < M (x + 9 + 13) (M (x + 9) 10)
      · obtain ⟨a1, a2, a3, a4⟩ := hQ q q0 z
        have e : M1 (x + 9 + 15) q = M (x + 9 + 15) q := f1 _ _ (by omega)
        rw [e]
        exact ⟨a1, a2, a3, (by omega)⟩
      · obtain ⟨a1, a2, a3⟩ := cR q (by omega) q1
        have := (hpl _ k a1 a2 k0 (by omega)).mpr a3
        exact ⟨a1, a2, (by omega), (by omega)⟩)
    rw [l1] at f2 F2 d1 d2 c1 c2
    have e13 : M' (x + 9 + 13) (M (x + 9) 10 + t) = M1 (x + 9 + 13) (M (x + 9) 10 + t) := f2 _ _ (fun z => by rcases z with z | z | z | z | z | ⟨z, -⟩ <;> omega)
    refine ⟨M', ?_, ?_, ⟨g, t, G1, ?_, ?_, d1.1, ?_, ?_, F2⟩, ⟨(by omega), d1.2⟩, (by omega), d3, d4, d5⟩
    · refine eS.of (fun P HP => ?_)
      refine rh1.of (rX30_make_117 hh _ _ _ _ hy hx ?_)
      rw [h1, hord k k0 (by omega)]
      refine ⟨fun _ => ⟨⟨by omega, by omega⟩, ?_⟩, fun z => by omega⟩
      refine rh1.s (vX30_make_135 hy E1 (LE0 rfl)) ?_
      refine rh1.of (rX30_make_138 hh _ _ _ _ hy hx ?_)
      refine ⟨⟨by omega, by omega⟩, ?_⟩
      exact rh1.s e2 HP
    · refine (f1.w (fun c j h => ?_)).tr (f2.w (fun c j h => ?_))
      · unfold Fln at h
        rcases h with h | h | h | h | h | h
        · exact .inl h
        · exact .inr (.inl h)
        · exact .inr (.inr (.inl h))
        · exact .inr (.inr (.inr (.inl h)))
        · exact .inr (.inr (.inr (.inr (.inl h))))
        · exact .inr (.inr (.inr (.inr (.inr ⟨h.1, k, (by omega), (by omega), h.2⟩))))
      · rcases h with h | h | h | h | h | ⟨h, k', h1, h2, h3⟩
        · exact .inl h
        · exact .inr (.inl ⟨h.1, (by omega)⟩)
        · exact .inr (.inr (.inl ⟨h.1, (by omega)⟩))
        · exact .inr (.inr (.inr (.inl ⟨h.1, (by omega)⟩)))
        · exact .inr (.inr (.inr (.inr (.inl h))))
        · exact .inr (.inr (.inr (.inr (.inr ⟨h, k', (by omega), h2, h3⟩))))
    · exact LB.fx (fun a j a0 a1 j0 j1 => f2 _ _ (fun z => by rcases z with z | z | z | z | z | ⟨z, -⟩ <;> omega)) (fun j j0 j1 => f2 _ _ (fun z => by rcases z with z | z | z | z | z | ⟨z, -⟩ <;> omega)) (fun j hj => f2 _ _ (fun z => by rcases z with z | z | z | z | z | ⟨z, -⟩ <;> omega))
    · rw [f2 _ _ (fun z => ?_)]
      · exact c6
      · rcases z with z | z | z | z | z | ⟨-, k', z1, z2, z3⟩
        · omega
        · omega
        · omega
        · omega
        · omega
        · have := hoi k k' k0 (by omega) (by omega) z2 z3
          omega
    · rw [e13]; exact d2
    · rw [e13, f2 _ _ (fun z => by rcases z with z | z | z | z | z | ⟨z, -⟩ <;> omega)]
      have := LB.mono t 0 (by omega)
      rw [show ((0 + t : Nat) : Int) = t by omega, show M (x + 9) 10 + ((0 : Nat) : Int) = M (x + 9) 10 by omega] at this
      exact this
end Make
