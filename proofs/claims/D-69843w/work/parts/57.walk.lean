/-! ===== the walk around a piece comes back (pure) ===== -/
section Walk
theorem pigeon : ∀ (K : Nat) (g : Nat → Nat), (∀ n, n ≤ K → g n < K) → ∃ i j, i < j ∧ j ≤ K ∧ g i = g j
  | 0, g, h => absurd (h 0 (Nat.le_refl 0)) (Nat.not_lt_zero _)
  | K + 1, g, h => by
    by_cases hc : ∃ i, i ≤ K ∧ g i = g (K + 1)
    · obtain ⟨i, i0, i1⟩ := hc
      exact ⟨i, K + 1, (by omega), Nat.le_refl _, i1⟩
    · have hc' : ∀ i, i ≤ K → g i ≠ g (K + 1) := fun i hi he => hc ⟨i, hi, he⟩
      obtain ⟨i, j, h1, h2, h3⟩ := pigeon K (fun n => if g n = K then g (K + 1) else g n) (fun n hn => by
        have a := h n (by omega)
        have b := h (K + 1) (Nat.le_refl _)
        show (if g n = K then g (K + 1) else g n) < K
        split
        · rename_i e
          have := hc' n hn
          omega
        · omega)
      by_cases ei : g i = K
      · by_cases ej : g j = K
        · exact ⟨i, j, h1, (by omega), ei.trans ej.symm⟩
        · rw [if_pos ei, if_neg ej] at h3
          exact absurd h3.symm (hc' j h2)
      · by_cases ej : g j = K
        · rw [if_neg ei, if_pos ej] at h3
          exact absurd h3 (hc' i (by omega))
        · rw [if_neg ei, if_neg ej] at h3
          exact ⟨i, j, h1, (by omega), h3⟩
/-- the four pixels around a corner -/
def Qc (I : Int → Int → Prop) (u v d : Int) : Prop := (d % 4 = 0 ∧ I u v) ∨ (d % 4 = 1 ∧ I (u - 1) v) ∨ (d % 4 = 2 ∧ I (u - 1) (v - 1)) ∨ (d % 4 = 3 ∧ I u (v - 1))
variable {I : Int → Int → Prop}
theorem Qc.m4 {u v d : Int} : Qc I u v (d % 4) ↔ Qc I u v d := by
  unfold Qc
  rw [Int.emod_emod_of_dvd d (by decide : (4 : Int) ∣ 4)]
theorem Qc.p4 {u v d : Int} : Qc I u v (d + 4) ↔ Qc I u v d := by
  unfold Qc
  rw [show (d + 4) % 4 = d % 4 by omega]
theorem Qc.z {u v d : Int} (h : d % 4 = 0) : Qc I u v d ↔ I u v := by
  unfold Qc
  constructor
  · intro y
    rcases y with y | y | y | y
    · exact y.2
    · omega
    · omega
    · omega
  · exact fun y => .inl ⟨h, y⟩
theorem Qc.o {u v d : Int} (h : d % 4 = 1) : Qc I u v d ↔ I (u - 1) v := by
  unfold Qc
  constructor
  · intro y
    rcases y with y | y | y | y
    · omega
    · exact y.2
    · omega
    · omega
  · exact fun y => .inr (.inl ⟨h, y⟩)
theorem Qc.t {u v d : Int} (h : d % 4 = 2) : Qc I u v d ↔ I (u - 1) (v - 1) := by
  unfold Qc
  constructor
  · intro y
    rcases y with y | y | y | y
    · omega
    · omega
    · exact y.2
    · omega
  · exact fun y => .inr (.inr (.inl ⟨h, y⟩))
theorem Qc.r {u v d : Int} (h : d % 4 = 3) : Qc I u v d ↔ I u (v - 1) := by
  unfold Qc
  constructor
  · intro y
    rcases y with y | y | y | y
    · omega
    · omega
    · omega
    · exact y.2
  · exact fun y => .inr (.inr (.inr ⟨h, y⟩))
theorem tb23 (d : Int) (h : 0 ≤ d ∧ d < 4) : (d = 0 ∧ rh_tb 2 d = 1 ∧ rh_tb 3 d = 0) ∨ (d = 1 ∧ rh_tb 2 d = 0 ∧ rh_tb 3 d = 1) ∨ (d = 2 ∧ rh_tb 2 d = -1 ∧ rh_tb 3 d = 0) ∨ (d = 3 ∧ rh_tb 2 d = 0 ∧ rh_tb 3 d = -1) := by
  have : d = 0 ∨ d = 1 ∨ d = 2 ∨ d = 3 := (by omega)
  rcases this with e | e | e | e
  · rw [e]; exact .inl (by decide)
  · rw [e]; exact .inr (.inl (by decide))
  · rw [e]; exact .inr (.inr (.inl (by decide)))
  · rw [e]; exact .inr (.inr (.inr (by decide)))
/-- a move: the pixels beside the edge -/
theorem Qc.mv {u v d : Int} (h : 0 ≤ d ∧ d < 4) : (Qc I (u + rh_tb 2 d) (v + rh_tb 3 d) (d + 1) ↔ Qc I u v d) ∧ (Qc I (u + rh_tb 2 d) (v + rh_tb 3 d) (d + 2) ↔ Qc I u v (d + 3)) := by
  rcases tb23 d h with ⟨e, e2, e3⟩ | ⟨e, e2, e3⟩ | ⟨e, e2, e3⟩ | ⟨e, e2, e3⟩ <;> rw [e2, e3, e]
  · rw [Qc.o (by decide), Qc.z (by decide), Qc.t (by decide), Qc.r (by decide), show u + 1 - 1 = u by omega, Int.add_zero]
    exact ⟨Iff.rfl, Iff.rfl⟩
  · rw [Qc.t (by decide), Qc.o (by decide), Qc.r (by decide), Qc.z (by decide), show v + 1 - 1 = v by omega, Int.add_zero]
    exact ⟨Iff.rfl, Iff.rfl⟩
  · rw [Qc.r (by decide), Qc.t (by decide), Qc.z (by decide), Qc.o (by decide), Int.add_zero]
    exact ⟨Iff.rfl, Iff.rfl⟩
  · rw [Qc.z (by decide), Qc.r (by decide), Qc.o (by decide), Qc.t (by decide), Int.add_zero]
    exact ⟨Iff.rfl, Iff.rfl⟩
abbrev w3 : Type := Int × Int × Int
/-- one step of the walk -/
def Wst (I : Int → Int → Prop) (s t : w3) : Prop := t.1 = s.1 + rh_tb 2 s.2.2 ∧ t.2.1 = s.2.1 + rh_tb 3 s.2.2 ∧ ((Qc I t.1 t.2.1 (s.2.2 + 3) ∧ t.2.2 = (s.2.2 + 3) % 4) ∨ (¬ Qc I t.1 t.2.1 (s.2.2 + 3) ∧ Qc I t.1 t.2.1 s.2.2 ∧ t.2.2 = s.2.2) ∨ (¬ Qc I t.1 t.2.1 (s.2.2 + 3) ∧ ¬ Qc I t.1 t.2.1 s.2.2 ∧ t.2.2 = (s.2.2 + 1) % 4))
def Wok (I : Int → Int → Prop) (s : w3) : Prop := (0 ≤ s.2.2 ∧ s.2.2 < 4) ∧ Qc I s.1 s.2.1 s.2.2 ∧ ¬ Qc I s.1 s.2.1 (s.2.2 + 3)
theorem Wok.next {s t : w3} (h : Wok I s) (w : Wst I s t) : Wok I t := by
  obtain ⟨h0, h1, h2⟩ := h
  obtain ⟨w1, w2, w4⟩ := w
  have m := Qc.mv (I := I) (u := s.1) (v := s.2.1) h0
  rw [← w1, ← w2] at m
  rcases w4 with ⟨a, b⟩ | ⟨a, a2, b⟩ | ⟨a, a2, b⟩
  · refine ⟨by rw [b]; omega, by rw [b]; exact Qc.m4.mpr a, fun y => h2 (m.2.mp ?_)⟩
    rw [b] at y
    have y2 := Qc.m4.mpr y
    rw [show ((s.2.2 + 3) % 4 + 3) % 4 = (s.2.2 + 2) % 4 by omega] at y2
    exact Qc.m4.mp y2
  · rw [← b] at a2 a h0
    exact ⟨h0, a2, a⟩
  · refine ⟨by rw [b]; omega, ?_, fun y => a2 ?_⟩
    · rw [b]; exact Qc.m4.mpr (m.1.mpr h1)
    · rw [b] at y
      have y2 := Qc.m4.mpr y
      rw [show ((s.2.2 + 1) % 4 + 3) % 4 = s.2.2 % 4 by omega] at y2
      exact Qc.m4.mp y2
theorem Wst.inj {s s' t : w3} (h : Wok I s) (h' : Wok I s') (w : Wst I s t) (w' : Wst I s' t) : s = s' := by
  obtain ⟨h0, h1, h2⟩ := h
  obtain ⟨g0, g1, g2⟩ := h'
  obtain ⟨w1, w2, w4⟩ := w
  obtain ⟨v1, v2, v4⟩ := w'
  have m := Qc.mv (I := I) (u := s.1) (v := s.2.1) h0
  rw [← w1, ← w2] at m
  have n := Qc.mv (I := I) (u := s'.1) (v := s'.2.1) g0
  rw [← v1, ← v2] at n
  have m1 := m.1.mpr h1
  have m2 : ¬ Qc I t.1 t.2.1 (s.2.2 + 2) := fun y => h2 (m.2.mp y)
  have n1 := n.1.mpr g1
  have n2 : ¬ Qc I t.1 t.2.1 (s'.2.2 + 2) := fun y => g2 (n.2.mp y)
  -- pixels by their place beside the new heading
  have key : ∀ a b : Int, a % 4 = b % 4 → (Qc I t.1 t.2.1 a ↔ Qc I t.1 t.2.1 b) := fun a b e => by
    rw [← Qc.m4 (d := a), e, Qc.m4]
  have hd : s.2.2 = s'.2.2 := by
    rcases w4 with ⟨a, b⟩ | ⟨a, a2, b⟩ | ⟨a, a2, b⟩ <;> rcases v4 with ⟨c, d⟩ | ⟨c, c2, d⟩ | ⟨c, c2, d⟩
    · omega
    · exact absurd ((key (s.2.2 + 1) (s'.2.2 + 2) (by omega)).mp m1) n2
    · exact absurd ((key (s.2.2 + 1) (s'.2.2 + 3) (by omega)).mp m1) c
    · exact absurd ((key (s'.2.2 + 1) (s.2.2 + 2) (by omega)).mp n1) m2
    · omega
    · exact absurd ((key (s.2.2 + 1) (s'.2.2 + 2) (by omega)).mp m1) n2
    · exact absurd ((key (s'.2.2 + 1) (s.2.2 + 3) (by omega)).mp n1) a
    · exact absurd ((key (s'.2.2 + 1) (s.2.2 + 2) (by omega)).mp n1) m2
    · omega
  rw [hd] at w1 w2
  have e1 : s.1 = s'.1 := (by omega)
  have e2 : s.2.1 = s'.2.1 := (by omega)
  exact Prod.ext e1 (Prod.ext e2 hd)
theorem Wst.ex (s : w3) : ∃ t, Wst I s t := by
  by_cases h : Qc I (s.1 + rh_tb 2 s.2.2) (s.2.1 + rh_tb 3 s.2.2) (s.2.2 + 3)
  · exact ⟨(_, _, (s.2.2 + 3) % 4), rfl, rfl, .inl ⟨h, rfl⟩⟩
  · by_cases h2 : Qc I (s.1 + rh_tb 2 s.2.2) (s.2.1 + rh_tb 3 s.2.2) s.2.2
    · exact ⟨(_, _, s.2.2), rfl, rfl, .inr (.inl ⟨h, h2, rfl⟩)⟩
    · exact ⟨(_, _, (s.2.2 + 1) % 4), rfl, rfl, .inr (.inr ⟨h, h2, rfl⟩)⟩
/-- the walk comes back: a way of n steps from s to s, that meets s not between -/
theorem Wst.back {W H : Int} (hI : ∀ u v, I u v → (0 ≤ u ∧ u < W) ∧ (0 ≤ v ∧ v < H)) (hWb : W ≤ 128) (hHb : H ≤ 96) {s : w3} (hs : Wok I s) : ∃ (n : Nat) (g : Nat → w3), (1 ≤ n ∧ n ≤ 60000) ∧ g 0 = s ∧ g n = s ∧ (∀ m, m < n → Wst I (g m) (g (m + 1))) ∧ (∀ m, m ≤ n → Wok I (g m)) ∧ (∀ m, 0 < m → m < n → g m ≠ s) := by
  obtain ⟨f, hf⟩ := Classical.axiomOfChoice (r := fun s t => Wst I s t) (fun s => Wst.ex s)
  let g : Nat → w3 := fun n => Nat.rec s (fun _ t => f t) n
  have g0 : g 0 = s := rfl
  have gs : ∀ n, g (n + 1) = f (g n) := fun n => rfl
  have ws : ∀ n, Wst I (g n) (g (n + 1)) := fun n => by rw [gs]; exact hf _
  have wo : ∀ n, Wok I (g n) := fun n => by
    induction n with
    | zero => exact hs
    | succ n ih => exact ih.next (ws n)
  have wb : ∀ n, (0 ≤ (g n).1 ∧ (g n).1 ≤ 128) ∧ (0 ≤ (g n).2.1 ∧ (g n).2.1 ≤ 96) ∧ (0 ≤ (g n).2.2 ∧ (g n).2.2 < 4) := fun n => by
    obtain ⟨h0, h1, h2⟩ := wo n
    rcases h1 with ⟨e, h1⟩ | ⟨e, h1⟩ | ⟨e, h1⟩ | ⟨e, h1⟩ <;> have := hI _ _ h1 <;> omega
  obtain ⟨i, j, ij, hj, e⟩ := pigeon 60000 (fun n => (((g n).2.1 * 129 + (g n).1) * 4 + (g n).2.2).toNat) (fun n _ => by
    have := wb n
    show (((g n).2.1 * 129 + (g n).1) * 4 + (g n).2.2).toNat < 60000
    omega)
  have e2 : g i = g j := by
    have a := wb i
    have b := wb j
    exact Prod.ext (by omega) (Prod.ext (by omega) (by omega))
  have cancel : ∀ i j, i < j → g i = g j → g (j - i) = s := by
    intro i
    induction i with
    | zero => intro j _ e; rw [Nat.sub_zero, ← e, g0]
    | succ i ih =>
      intro j hj e
      obtain ⟨j, rfl⟩ : ∃ k, j = k + 1 := ⟨j - 1, (by omega)⟩
      rw [show j + 1 - (i + 1) = j - i by omega]
      exact ih j (by omega) (Wst.inj (wo i) (wo j) (ws i) (by rw [e]; exact ws j))
  have hx : ∃ n, 1 ≤ n ∧ n ≤ 60000 ∧ g n = s := ⟨j - i, (by omega), (by omega), cancel i j ij e2⟩
  have least : ∀ n, (∃ m, 1 ≤ m ∧ m ≤ n ∧ g m = s) → ∃ m, 1 ≤ m ∧ m ≤ n ∧ g m = s ∧ ∀ k, 0 < k → k < m → g k ≠ s := by
    intro n
    induction n with
    | zero => intro ⟨m, a, b, _⟩; omega
    | succ n ih =>
      intro ⟨m, a, b, c⟩
      by_cases h : ∃ m, 1 ≤ m ∧ m ≤ n ∧ g m = s
      · obtain ⟨m', a1, b1, c1⟩ := ih h
        exact ⟨m', a1, (by omega), c1⟩
      · have hm : m = n + 1 := by
          by_cases q : m ≤ n
          · exact absurd ⟨m, a, q, c⟩ h
          · omega
        exact ⟨m, a, b, c, fun k k0 k1 he => h ⟨k, k0, (by omega), he⟩⟩
  obtain ⟨n, n1, n2, n3⟩ := hx
  obtain ⟨m, m1, m2, m3, m4⟩ := least 60000 ⟨n, n1, n2, n3⟩
  exact ⟨m, g, ⟨m1, m2⟩, rfl, m3, fun k _ => ws k, fun k _ => wo k, m4⟩
end Walk
