/-! ===== LAYER 2: lines of a block (pure) ===== -/
section Lines
/-- pieces that hang together -/
def near (T B : Int → Int) (i j : Int) : Prop := B i - T i ≤ 2 * (min (B i) (B j) - max (T i) (T j)) ∨ B j - T j ≤ 2 * (min (B i) (B j) - max (T i) (T j))
theorem near_c {T B : Int → Int} {i j : Int} (h : near T B i j) : near T B j i := by unfold near at h ⊢; omega
variable {T B L blk g : Int → Int} {b np : Int}
/-- what stays true while pieces are put together -/
def Gri (T B blk : Int → Int) (b np : Int) (g : Int → Int) : Prop := (∀ i, 0 ≤ i → i < np → (g i = -1 ↔ blk i ≠ b) ∧ (g i ≠ -1 → 0 ≤ g i ∧ g i ≤ i)) ∧
  (∀ F : Int → Int, (∀ i j, 0 ≤ i → i < np → 0 ≤ j → j < np → blk i = b → blk j = b → near T B i j → F i = F j) → ∀ i, 0 ≤ i → i < np → blk i = b → F (g i) = F i)
def Grp (T B blk : Int → Int) (b np : Int) (g : Int → Int) : Prop := Gri T B blk b np g ∧ ∀ i j, 0 ≤ i → i < np → 0 ≤ j → j < np → g i ≠ -1 → g j ≠ -1 → near T B i j → g i = g j
theorem Grp.le {g' : Int → Int} (h : Grp T B blk b np g) (h' : Grp T B blk b np g') : ∀ i, 0 ≤ i → i < np → g i ≠ -1 → g' i ≤ g i := fun i i0 i1 hi => by
  have hb : blk i = b := by
    by_cases q : blk i = b
    · exact q
    · exact absurd ((h.1.1 i i0 i1).1.mpr q) hi
  have e := h.1.2 g' (fun u v u0 u1 v0 v1 bu bv hn => h'.2 u v u0 u1 v0 v1 (fun z => (h'.1.1 u u0 u1).1.mp z bu) (fun z => (h'.1.1 v v0 v1).1.mp z bv) hn) i i0 i1 hb
  have hi2 := (h.1.1 i i0 i1).2 hi
  have hg' : g' i ≠ -1 := fun z => (h'.1.1 i i0 i1).1.mp z hb
  have := (h'.1.1 (g i) hi2.1 (by omega)).2 (by rw [e]; exact hg')
  omega
theorem Grp.one {g' : Int → Int} (h : Grp T B blk b np g) (h' : Grp T B blk b np g') : ∀ i, 0 ≤ i → i < np → g i = g' i := fun i i0 i1 => by
  by_cases q : g i = -1
  · have := (h'.1.1 i i0 i1).1.mpr ((h.1.1 i i0 i1).1.mp q)
    omega
  · have q' : g' i ≠ -1 := fun z => q ((h.1.1 i i0 i1).1.mpr ((h'.1.1 i i0 i1).1.mp z))
    have := h.le h' i i0 i1 q
    have := h'.le h i i0 i1 q'
    omega
theorem Grp.self (h : Grp T B blk b np g) : ∀ i, 0 ≤ i → i < np → g i ≠ -1 → g (g i) = g i := fun i i0 i1 hi => by
  have hb : blk i = b := by
    by_cases q : blk i = b
    · exact q
    · exact absurd ((h.1.1 i i0 i1).1.mpr q) hi
  exact h.1.2 g (fun u v u0 u1 v0 v1 bu bv hn => h.2 u v u0 u1 v0 v1 (fun z => (h.1.1 u u0 u1).1.mp z bu) (fun z => (h.1.1 v v0 v1).1.mp z bv) hn) i i0 i1 hb
theorem Gri.start : Gri T B blk b np (fun i => if blk i = b then i else -1) := by
  refine ⟨fun i i0 i1 => ?_, fun F _ i i0 i1 hb => ?_⟩
  · show ((if blk i = b then i else -1) = -1 ↔ blk i ≠ b) ∧ ((if blk i = b then i else -1) ≠ -1 → 0 ≤ (if blk i = b then i else -1) ∧ (if blk i = b then i else -1) ≤ i)
    by_cases q : blk i = b
    · rw [if_pos q]; exact ⟨⟨fun z => by omega, fun z => absurd q z⟩, fun _ => ⟨by omega, by omega⟩⟩
    · rw [if_neg q]; exact ⟨⟨fun _ => q, fun _ => rfl⟩, fun z => absurd rfl z⟩
  · show F (if blk i = b then i else -1) = F i
    rw [if_pos hb]
theorem Gri.cg {g' : Int → Int} (h : Gri T B blk b np g) (e : ∀ i, 0 ≤ i → i < np → g' i = g i) : Gri T B blk b np g' :=
  ⟨fun i i0 i1 => by rw [e i i0 i1]; exact h.1 i i0 i1, fun F hF i i0 i1 hb => by rw [e i i0 i1]; exact h.2 F hF i i0 i1 hb⟩
theorem Gri.put (h : Gri T B blk b np g) {i j : Int} (i0 : 0 ≤ i) (i1 : i < np) (j0 : 0 ≤ j) (j1 : j < np) (hi : g i ≠ -1) (hlt : g i < g j) (hn : near T B i j) : Gri T B blk b np (upz g j (g i)) := by
  have bi : blk i = b := by
    by_cases q : blk i = b
    · exact q
    · exact absurd ((h.1 i i0 i1).1.mpr q) hi
  have gi := (h.1 i i0 i1).2 hi
  have hj : g j ≠ -1 := (by omega)
  have gj := (h.1 j j0 j1).2 hj
  have bj : blk j = b := by
    by_cases q : blk j = b
    · exact q
    · exact absurd ((h.1 j j0 j1).1.mpr q) hj
  refine ⟨fun k k0 k1 => ?_, fun F hF k k0 k1 hb => ?_⟩
  · unfold upz
    by_cases q : k = j
    · rw [if_pos q, q]
      exact ⟨⟨fun z => absurd z hi, fun z => absurd bj z⟩, fun _ => ⟨by omega, by omega⟩⟩
    · rw [if_neg q]; exact h.1 k k0 k1
  · unfold upz
    by_cases q : k = j
    · rw [if_pos q, q, h.2 F hF i i0 i1 bi, hF i j i0 i1 j0 j1 bi bj hn]
    · rw [if_neg q]; exact h.2 F hF k k0 k1 hb
/-- sums, to see that it ends -/
def sm (g : Int → Int) : Nat → Int
  | 0 => 0
  | k + 1 => sm g k + (g k + 1)
theorem sm_x {j v : Int} : ∀ k : Nat, (k : Int) ≤ j → sm (upz g j v) k = sm g k
  | 0 => fun _ => rfl
  | k + 1 => fun h => by
    simp only [sm]
    rw [sm_x k (by omega)]
    unfold upz
    rw [if_neg (by omega)]
theorem sm_up {j v : Int} (j0 : 0 ≤ j) : ∀ k : Nat, j < k → sm (upz g j v) k = sm g k + v - g j
  | 0 => fun h => by omega
  | k + 1 => fun h => by
    simp only [sm]
    by_cases q : j = k
    · rw [sm_x k (by omega)]
      unfold upz
      rw [if_pos q.symm, q]; omega
    · rw [sm_up j0 k (by omega)]
      unfold upz
      rw [if_neg (fun z => q z.symm)]; omega
theorem sm_0 : ∀ k : Nat, (∀ i : Int, 0 ≤ i → i < k → -1 ≤ g i) → 0 ≤ sm g k
  | 0 => fun _ => Int.le_refl _
  | k + 1 => fun h => by
    have := sm_0 k (fun i a b => h i a (by omega))
    have := h k (by omega) (by omega)
    simp only [sm]
    omega
theorem Gri.sm (h : Gri T B blk b np g) : 0 ≤ sm g np.toNat := sm_0 _ (fun i i0 i1 => by
  by_cases q : g i = -1
  · omega
  · have := ((h.1 i i0 (by omega)).2 q).1
    omega)
/-- values over a part only -/
theorem lst_cg {g g' lab lab' : Int → Int} {i a : Int} : ∀ k : Nat, (∀ j : Int, 0 ≤ j → j < k → (lab j = i ↔ lab' j = i) ∧ (lab j = i → g j = g' j)) → lst g lab i a k = lst g' lab' i a k
  | 0 => fun _ => rfl
  | k + 1 => fun h => by
    have e := lst_cg (i := i) (a := a) k (fun j j0 j1 => h j j0 (by omega))
    have hk := h k (by omega) (by omega)
    simp only [lst]
    rw [← e]
    by_cases q : lab k = i
    · rw [← hk.2 q]
      by_cases c : g k < lst g lab i a k
      · rw [if_pos ⟨q, c⟩, if_pos ⟨hk.1.mp q, c⟩]
      · rw [if_neg (fun z => c z.2), if_neg (fun z => c z.2)]
    · rw [if_neg (fun z => q z.1), if_neg (fun z => q (hk.1.mpr z.1))]
theorem gst_cg {g g' lab lab' : Int → Int} {i a : Int} : ∀ k : Nat, (∀ j : Int, 0 ≤ j → j < k → (lab j = i ↔ lab' j = i) ∧ (lab j = i → g j = g' j)) → gst g lab i a k = gst g' lab' i a k
  | 0 => fun _ => rfl
  | k + 1 => fun h => by
    have e := gst_cg (i := i) (a := a) k (fun j j0 j1 => h j j0 (by omega))
    have hk := h k (by omega) (by omega)
    simp only [gst]
    rw [← e]
    by_cases q : lab k = i
    · rw [← hk.2 q]
      by_cases c : gst g lab i a k < g k
      · rw [if_pos ⟨q, c⟩, if_pos ⟨hk.1.mp q, c⟩]
      · rw [if_neg (fun z => c z.2), if_neg (fun z => c z.2)]
    · rw [if_neg (fun z => q z.1), if_neg (fun z => q (hk.1.mpr z.1))]
/-- the next line of those left; the groups after u lines -/
noncomputable def nxg (T L : Int → Int) (np : Int) (g : Int → Int) : Int := nxt (fun i => g i = i) (fun i => lst T g i 96 np.toNat) (fun i => lst L g i 128 np.toNat) np.toNat
noncomputable def gq (T L : Int → Int) (np : Int) (g : Int → Int) : Nat → Int → Int
  | 0 => g
  | u + 1 => fun i => if gq T L np g u i = nxg T L np (gq T L np g u) then -1 else gq T L np g u i
theorem nxg_cg {g' : Int → Int} (e : ∀ i, 0 ≤ i → i < np → g i = g' i) : nxg T L np g = nxg T L np g' :=
  nxt_cg _ (fun i i0 i1 => by rw [e i i0 (by omega)]) (fun i i0 i1 _ => ⟨lst_cg _ (fun j j0 j1 => by rw [e j j0 (by omega)]; exact ⟨Iff.rfl, fun _ => rfl⟩), lst_cg _ (fun j j0 j1 => by rw [e j j0 (by omega)]; exact ⟨Iff.rfl, fun _ => rfl⟩)⟩)
theorem gq_cg {g' : Int → Int} (e : ∀ i, 0 ≤ i → i < np → g i = g' i) : ∀ u : Nat, ∀ i, 0 ≤ i → i < np → gq T L np g u i = gq T L np g' u i
  | 0 => e
  | u + 1 => fun i i0 i1 => by
    simp only [gq]
    rw [nxg_cg (gq_cg e u), gq_cg e u i i0 i1]
theorem nxg_b : nxg T L np g = -1 ∨ (0 ≤ nxg T L np g ∧ nxg T L np g < np ∧ g (nxg T L np g) = nxg T L np g) := by
  rcases nxt_b (al := fun i => g i = i) (T := fun i => lst T g i 96 np.toNat) (L := fun i => lst L g i 128 np.toNat) np.toNat with h | ⟨h1, h2, h3⟩
  · exact .inl h
  · refine .inr ⟨h1, ?_, h3⟩
    unfold nxg; omega
theorem nct_rm {s : Int} (hs : s ≠ -1) : ∀ k : Nat, nct (fun i => if g i = s then -1 else g i) (-1) k = nct g (-1) k + nct g s k
  | 0 => rfl
  | k + 1 => by
    simp only [nct]
    rw [nct_rm hs k]
    by_cases q : g k = s
    · have z : ¬ (g k = -1) := fun z => hs (by rw [← q, z])
      simp only [q, hs, if_true, if_false]; omega
    · simp only [q, if_false]; omega
theorem gq_b (h : ∀ i, 0 ≤ i → i < np → -1 ≤ g i ∧ g i ≤ i) : ∀ u : Nat, ∀ i, 0 ≤ i → i < np → -1 ≤ gq T L np g u i ∧ gq T L np g u i ≤ i
  | 0 => h
  | u + 1 => fun i i0 i1 => by
    simp only [gq]
    have := gq_b h u i i0 i1
    split <;> omega
/-- to put one into a row: after the last one that it does not go before -/
noncomputable def ips (lt : Int → Int → Prop) (a : Int → Int) (x : Int) : Nat → Nat
  | 0 => 0
  | k + 1 => rh_if (lt x (a k)) (ips lt a x k) (k + 1)
noncomputable def inz (lt : Int → Int → Prop) (a : Int → Int) (x : Int) (c : Nat) : Int → Int := fun j => if j < ips lt a x c then a j else if j = ips lt a x c then x else a (j - 1)
theorem ips_b {lt : Int → Int → Prop} {a : Int → Int} {x : Int} : ∀ k : Nat, ips lt a x k ≤ k
  | 0 => Nat.le_refl _
  | k + 1 => by
    simp only [ips]
    by_cases q : lt x (a k)
    · rw [rh_if_t q]; have := ips_b (lt := lt) (a := a) (x := x) k; omega
    · rw [rh_if_f q]; exact Nat.le_refl _
theorem ips_cg {lt lt' : Int → Int → Prop} {a a' : Int → Int} {x : Int} : ∀ k : Nat, (∀ j : Int, 0 ≤ j → j < k → (lt x (a j) ↔ lt' x (a' j))) → ips lt a x k = ips lt' a' x k
  | 0 => fun _ => rfl
  | k + 1 => fun h => by
    simp only [ips]
    rw [ips_cg k (fun j j0 j1 => h j j0 (by omega))]
    exact rh_if_cg (h k (by omega) (by omega))
theorem inz_p {lt : Int → Int → Prop} {a : Int → Int} {x : Int} {c : Nat} {P : Int → Prop} (h : ∀ j : Int, 0 ≤ j → j < c → P (a j)) (hx : P x) : ∀ j : Int, 0 ≤ j → j < ((c + 1 : Nat) : Int) → P (inz lt a x c j) := fun j j0 j1 => by
  have hb := ips_b (lt := lt) (a := a) (x := x) c
  unfold inz
  by_cases q : j < ips lt a x c
  · rw [if_pos q]; exact h j j0 (by omega)
  · rw [if_neg q]
    by_cases r : j = ips lt a x c
    · rw [if_pos r]; exact hx
    · rw [if_neg r]; exact h (j - 1) (by omega) (by omega)
/-- members of a line, in their order -/
def lef (L T : Int → Int) (i j : Int) : Prop := L i < L j ∨ (L i = L j ∧ (T i < T j ∨ (T i = T j ∧ i < j)))
noncomputable def mem (L T : Int → Int) (g : Int → Int) (s : Int) : Nat → Int → Int
  | 0 => fun _ => 0
  | k + 1 => rh_if (g k = s) (inz (lef L T) (mem L T g s k) k (nct g s k).toNat) (mem L T g s k)
theorem mem_b {s : Int} : ∀ k : Nat, ∀ j : Int, 0 ≤ j → j < nct g s k → 0 ≤ mem L T g s k j ∧ mem L T g s k j < k ∧ g (mem L T g s k j) = s
  | 0 => fun j j0 j1 => by simp only [nct] at j1; omega
  | k + 1 => fun j j0 j1 => by
    have hn := (nct_b g s k).1
    simp only [nct] at j1
    simp only [mem]
    by_cases q : g k = s
    · rw [rh_if_t q]
      rw [if_pos q] at j1
      refine inz_p (P := fun v => 0 ≤ v ∧ v < ((k + 1 : Nat) : Int) ∧ g v = s) (fun t t0 t1 => ?_) ⟨(by omega), (by omega), q⟩ j j0 (by omega)
      have := mem_b (s := s) k t t0 (by omega)
      exact ⟨this.1, (by omega), this.2.2⟩
    · rw [rh_if_f q]
      rw [if_neg q] at j1
      have := mem_b (s := s) k j j0 (by omega)
      exact ⟨this.1, (by omega), this.2.2⟩
theorem mem_cg {g' : Int → Int} {s : Int} : ∀ k : Nat, (∀ i : Int, 0 ≤ i → i < k → (g i = s ↔ g' i = s)) → mem L T g s k = mem L T g' s k
  | 0 => fun _ => rfl
  | k + 1 => fun h => by
    simp only [mem]
    rw [mem_cg k (fun i a b => h i a (by omega)), nct_cg k (fun i a b => h i a (by omega))]
    exact rh_if_cg (h k (by omega) (by omega))
theorem inz_inj {lt : Int → Int → Prop} {a : Int → Int} {x : Int} {c : Nat} (h : ∀ u v : Int, 0 ≤ u → u < v → v < c → a u ≠ a v) (hx : ∀ u : Int, 0 ≤ u → u < c → a u ≠ x) : ∀ j j' : Int, 0 ≤ j → j < j' → j' < ((c + 1 : Nat) : Int) → inz lt a x c j ≠ inz lt a x c j' := fun j j' j0 j1 j2 => by
  have hb := ips_b (lt := lt) (a := a) (x := x) c
  unfold inz
  generalize ips lt a x c = t at hb
  by_cases q : j < t
  · rw [if_pos q]
    by_cases q2 : j' < t
    · rw [if_pos q2]; exact h j j' j0 j1 (by omega)
    · rw [if_neg q2]
      by_cases q3 : j' = t
      · rw [if_pos q3]; exact hx j j0 (by omega)
      · rw [if_neg q3]; exact h j (j' - 1) j0 (by omega) (by omega)
  · rw [if_neg q, if_neg (show ¬ j' < (t : Int) by omega), if_neg (show ¬ j' = (t : Int) by omega)]
    by_cases q3 : j = t
    · rw [if_pos q3]; exact fun z => hx (j' - 1) (by omega) (by omega) z.symm
    · rw [if_neg q3]; exact h (j - 1) (j' - 1) (by omega) (by omega) (by omega)
theorem mem_inj {s : Int} : ∀ k : Nat, ∀ j j' : Int, 0 ≤ j → j < j' → j' < nct g s k → mem L T g s k j ≠ mem L T g s k j'
  | 0 => fun j j' j0 j1 j2 => by simp only [nct] at j2; omega
  | k + 1 => fun j j' j0 j1 j2 => by
    have hn := (nct_b g s k).1
    simp only [nct] at j2
    simp only [mem]
    by_cases q : g k = s
    · rw [rh_if_t q]
      rw [if_pos q] at j2
      refine inz_inj (fun u v u0 u1 u2 => mem_inj k u v u0 u1 (by omega)) (fun u u0 u1 z => ?_) j j' j0 j1 (by omega)
      have := mem_b (L := L) (T := T) (g := g) (s := s) k u u0 (by omega)
      omega
    · rw [rh_if_f q]
      rw [if_neg q] at j2
      exact mem_inj k j j' j0 j1 (by omega)
theorem gq_mono : ∀ u : Nat, ∀ i, gq T L np g u i ≠ -1 → g i = gq T L np g u i
  | 0 => fun i _ => rfl
  | u + 1 => fun i h => by
    simp only [gq] at h ⊢
    by_cases q : gq T L np g u i = nxg T L np (gq T L np g u)
    · rw [if_pos q] at h; exact absurd rfl h
    · rw [if_neg q] at h ⊢; exact gq_mono u i h
end Lines
