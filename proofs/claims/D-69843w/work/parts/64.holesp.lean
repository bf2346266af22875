/-! ===== holes: counting components in the box and on the page (pure) ===== -/
section HolesP
theorem nct_inj {Rl : Int → Int → Prop} : ∀ (n : Nat) (p q : Int → Int) (m : Nat), (∀ c : Int, 0 ≤ c → c < n → p c = 1 → ∃ d : Int, (0 ≤ d ∧ d < m) ∧ q d = 1 ∧ Rl c d) → (∀ c c' d : Int, p c = 1 → p c' = 1 → Rl c d → Rl c' d → c = c') → nct p 1 n ≤ nct q 1 m
  | 0, p, q, m, _, _ => by have := nct_b q 1 m; simp only [nct]; omega
  | n + 1, p, q, m, h, hi => by
    simp only [nct]
    by_cases e : p n = 1
    · rw [if_pos e]
      obtain ⟨d, d0, d1, d2⟩ := h n (by omega) (by omega) e
      have u := nct_dn (f := q) (c := 0) (d := 1) d0.1 d1 (by decide) m d0.2
      have := nct_inj n p (upz q d 0) m (fun c c0 c1 hc => by
        obtain ⟨d', a0, a1, a2⟩ := h c c0 (by omega) hc
        refine ⟨d', a0, ?_, a2⟩
        by_cases z : d' = d
        · have := hi c n d hc e (z ▸ a2) d2
          omega
        · rw [upz_n z]; exact a1) hi
      omega
    · rw [if_neg e]
      have := nct_inj n p q m (fun c c0 c1 hc => h c c0 (by omega) hc) hi
      omega
theorem Lb.cl {W N : Int} {col : Int → Prop} {E : Prop} {lab : Int → Int} {cnt : Int} (h : Lb W N col E lab cnt) {Q : Int → Prop} (hQ : ∀ a b : Int, (0 ≤ a ∧ a < N) → (0 ≤ b ∧ b < N) → col a → col b → adj W E a b → Q a → Q b) {k k' : Int} (hk : 0 ≤ k ∧ k < N) (hk' : 0 ≤ k' ∧ k' < N) (ck : col k) (e : lab k = lab k') (q : Q k) : Q k' := by
  have ck' : col k' := by
    have a := (h.1 k hk).1
    have b := (h.1 k' hk').1
    rw [e] at a
    exact Classical.byContradiction (fun y => (a.mp (b.mpr y)) ck)
  obtain ⟨f, f0, f1, f2, f3, f4⟩ := h.2.2.1 k hk ck
  obtain ⟨g, g0, g1, g2, g3, g4⟩ := h.2.2.1 k' hk' ck'
  have hfg : f = g := by
    have a := f3 g ⟨by omega, by omega⟩ (by rw [g2, e])
    have b := g3 f ⟨by omega, by omega⟩ (by rw [f2, e])
    omega
  have cf : col f := by
    have a := (h.1 f ⟨by omega, by omega⟩).1
    have b := (h.1 k hk).1
    rw [f2] at a
    exact Classical.byContradiction (fun y => (b.mp (a.mpr y)) ck)
  have hf : (0 ≤ f ∧ f < N) ∧ col f := ⟨⟨by omega, by omega⟩, cf⟩
  have r1 : Q f := by
    have := conn.ind (P := fun z => Q z → Q f) f4 hf (fun y => y) (fun a b ha ca hp hab hb cb qb => hp (hQ b a hb ha cb ca hab.symm qb))
    exact this q
  rw [← hfg] at g4
  exact conn.ind (P := Q) g4 hf r1 (fun a b ha ca qa hab hb cb => hQ a b ha hb ca cb hab qa)
theorem adj_c {W X Y X2 Y2 : Int} (h0 : 0 ≤ X ∧ X < W) (h1 : 0 ≤ X2 ∧ X2 < W) (h2 : -1 ≤ X - X2 ∧ X - X2 ≤ 1) (h3 : -1 ≤ Y - Y2 ∧ Y - Y2 ≤ 1) (h4 : X = X2 ∨ Y = Y2) : adj W False (W * Y + X) (W * Y2 + X2) := by
  unfold adj
  rw [(dm_x h0.1 h0.2).1, (dm_x h0.1 h0.2).2, (dm_x h1.1 h1.2).1, (dm_x h1.1 h1.2).2]
  exact ⟨h2, h3, .inr h4⟩
theorem adj_d {W X Y X2 Y2 : Int} (h0 : 0 ≤ X ∧ X < W) (h1 : 0 ≤ X2 ∧ X2 < W) (h : adj W False (W * Y + X) (W * Y2 + X2)) : (-1 ≤ X - X2 ∧ X - X2 ≤ 1) ∧ (-1 ≤ Y - Y2 ∧ Y - Y2 ≤ 1) ∧ (X = X2 ∨ Y = Y2) := by
  unfold adj at h
  rw [(dm_x h0.1 h0.2).1, (dm_x h0.1 h0.2).2, (dm_x h1.1 h1.2).1, (dm_x h1.1 h1.2).2] at h
  exact ⟨h.1, h.2.1, h.2.2.resolve_left id⟩
theorem chain {f : Int → Int} {a : Int} : ∀ n : Nat, (∀ j : Int, a ≤ j → j < a + n → f (j + 1) = f j) → f (a + n) = f a
  | 0, _ => by simp
  | n + 1, h => by
    have := chain n (fun j j0 j1 => h j j0 (by omega))
    rw [← this, ← h (a + n) (by omega) (by omega)]
    congr 1
    omega
theorem chain2 {f : Int → Int} {a b : Int} (hab : a ≤ b) (h : ∀ j : Int, a ≤ j → j < b → f (j + 1) = f j) : f b = f a := by
  have := chain (f := f) (a := a) (b - a).toNat (fun j j0 j1 => h j j0 (by omega))
  rw [show a + ((b - a).toNat : Int) = b by omega] at this
  exact this
variable {W H l t r b cnt cnt' X Y : Int} {P : Int → Int → Prop} {lab lab' : Int → Int}
/-- a page with a piece P, its box, and the labels of what is not P: of the page, of the padded box -/
def Hls (W H l t r b : Int) (P : Int → Int → Prop) (lab' lab : Int → Int) (cnt' cnt : Int) : Prop :=
  (0 ≤ l ∧ l < r ∧ r ≤ W) ∧ (0 ≤ t ∧ t < b ∧ b ≤ H) ∧ (∀ X Y, P X Y → (l ≤ X ∧ X < r) ∧ (t ≤ Y ∧ Y < b)) ∧
  Lb W (W * H) (fun k => ¬ P (k % W) (k / W)) False lab' cnt' ∧ Lb (r - l + 2) ((r - l + 2) * (b - t + 2)) (fun k => ¬ P (l - 1 + k % (r - l + 2)) (t - 1 + k / (r - l + 2))) False lab cnt
abbrev inB (l t r b X Y : Int) : Prop := (l ≤ X ∧ X < r) ∧ (t ≤ Y ∧ Y < b)
abbrev inP (l t r b X Y : Int) : Prop := (l - 1 ≤ X ∧ X ≤ r) ∧ (t - 1 ≤ Y ∧ Y ≤ b)
def bix (l t r X Y : Int) : Int := (r - l + 2) * (Y - t + 1) + (X - l + 1)
theorem bix_i (h : inP l t r b X Y) : (0 ≤ bix l t r X Y ∧ bix l t r X Y < (r - l + 2) * (b - t + 2)) ∧ bix l t r X Y % (r - l + 2) = X - l + 1 ∧ bix l t r X Y / (r - l + 2) = Y - t + 1 := by
  unfold bix
  have d := dm_x (W := r - l + 2) (u := X - l + 1) (v := Y - t + 1) (by omega) (by omega)
  exact ⟨ix_b (by omega) (by omega) (by omega) (by omega), d.1, d.2⟩
theorem Hls.pa (h : Hls W H l t r b P lab' lab cnt' cnt) {X2 Y2 : Int} (h1 : (0 ≤ X ∧ X < W) ∧ (0 ≤ Y ∧ Y < H)) (h2 : (0 ≤ X2 ∧ X2 < W) ∧ (0 ≤ Y2 ∧ Y2 < H)) (n1 : ¬ P X Y) (n2 : ¬ P X2 Y2) (d1 : -1 ≤ X - X2 ∧ X - X2 ≤ 1) (d2 : -1 ≤ Y - Y2 ∧ Y - Y2 ≤ 1) (d3 : X = X2 ∨ Y = Y2) : lab' (W * Y2 + X2) = lab' (W * Y + X) := by
  have e1 := dm_x (v := Y) h1.1.1 h1.1.2
  have e2 := dm_x (v := Y2) h2.1.1 h2.1.2
  refine h.2.2.2.1.2.1 _ _ (ix_b h1.1.1 h1.1.2 h1.2.1 h1.2.2) (ix_b h2.1.1 h2.1.2 h2.2.1 h2.2.2) ?_ ?_ (adj_c h1.1 h2.1 d1 d2 d3)
  · show ¬ P ((W * Y + X) % W) ((W * Y + X) / W)
    rw [e1.1, e1.2]; exact n1
  · show ¬ P ((W * Y2 + X2) % W) ((W * Y2 + X2) / W)
    rw [e2.1, e2.2]; exact n2
theorem Hls.cb (_h : Hls W H l t r b P lab' lab cnt' cnt) (h1 : inP l t r b X Y) (n1 : ¬ P X Y) : ¬ P (l - 1 + bix l t r X Y % (r - l + 2)) (t - 1 + bix l t r X Y / (r - l + 2)) := by
  obtain ⟨-, e1, e2⟩ := bix_i h1
  rw [e1, e2, show l - 1 + (X - l + 1) = X by omega, show t - 1 + (Y - t + 1) = Y by omega]
  exact n1
theorem Hls.ba (h : Hls W H l t r b P lab' lab cnt' cnt) {X2 Y2 : Int} (h1 : inP l t r b X Y) (h2 : inP l t r b X2 Y2) (n1 : ¬ P X Y) (n2 : ¬ P X2 Y2) (d1 : -1 ≤ X - X2 ∧ X - X2 ≤ 1) (d2 : -1 ≤ Y - Y2 ∧ Y - Y2 ≤ 1) (d3 : X = X2 ∨ Y = Y2) : lab (bix l t r X2 Y2) = lab (bix l t r X Y) := by
  refine h.2.2.2.2.2.1 _ _ (bix_i h1).1 (bix_i h2).1 (h.cb h1 n1) (h.cb h2 n2) ?_
  unfold bix
  exact adj_c ⟨by omega, by omega⟩ ⟨by omega, by omega⟩ ⟨by omega, by omega⟩ ⟨by omega, by omega⟩ (by omega)
/-- the ring has label 0 -/
theorem Hls.ring (h : Hls W H l t r b P lab' lab cnt' cnt) (h1 : inP l t r b X Y) (h2 : X = l - 1 ∨ X = r ∨ Y = t - 1 ∨ Y = b) : ¬ P X Y ∧ lab (bix l t r X Y) = 0 := by
  have hl := h.1
  have ht := h.2.1
  have nP : ∀ X Y, ¬ inB l t r b X Y → ¬ P X Y := fun X Y n y => n (h.2.2.1 X Y y)
  have z0 : bix l t r (l - 1) (t - 1) = 0 := by
    unfold bix
    rw [show t - 1 - t + 1 = 0 by omega, Int.mul_zero]; omega
  have i0 := bix_i (l := l) (t := t) (r := r) (b := b) (X := l - 1) (Y := t - 1) ⟨by omega, by omega⟩
  have l0 : lab (bix l t r (l - 1) (t - 1)) = 0 := by
    rw [z0] at i0 ⊢
    have a := h.2.2.2.2.1 0 i0.1
    have c : lab 0 ≠ -1 := fun y => (a.1.mp y) (by
      have := h.cb (X := l - 1) (Y := t - 1) ⟨by omega, by omega⟩ (nP _ _ (by omega))
      rw [z0] at this
      exact this)
    by_cases q : lab 0 = 0
    · exact q
    · obtain ⟨g, g0, g1, -⟩ := h.2.2.2.2.2.2.2.1 0 i0.1 0 (by omega) (by omega)
      omega
  have row : ∀ y : Int, (y = t - 1 ∨ y = b) → ∀ x : Int, l - 1 ≤ x → x ≤ r → lab (bix l t r x y) = lab (bix l t r (l - 1) y) := fun y hy x x0 x1 =>
    chain2 (f := fun x => lab (bix l t r x y)) x0 (fun j j0 j1 => h.ba (X := j) (Y := y) (X2 := j + 1) (Y2 := y) ⟨by omega, by omega⟩ ⟨by omega, by omega⟩ (nP _ _ (by omega)) (nP _ _ (by omega)) ⟨by omega, by omega⟩ ⟨by omega, by omega⟩ (.inr rfl))
  have colm : ∀ y : Int, t - 1 ≤ y → y ≤ b → lab (bix l t r (l - 1) y) = 0 := fun y y0 y1 => by
    rw [← l0]
    exact chain2 (f := fun y => lab (bix l t r (l - 1) y)) y0 (fun j j0 j1 => h.ba (X := l - 1) (Y := j) (X2 := l - 1) (Y2 := j + 1) ⟨by omega, by omega⟩ ⟨by omega, by omega⟩ (nP _ _ (by omega)) (nP _ _ (by omega)) ⟨by omega, by omega⟩ ⟨by omega, by omega⟩ (.inl rfl))
  have colr : ∀ y : Int, t - 1 ≤ y → y ≤ b → lab (bix l t r r y) = 0 := fun y y0 y1 => by
    rw [chain2 (f := fun y => lab (bix l t r r y)) y0 (fun j j0 j1 => h.ba (X := r) (Y := j) (X2 := r) (Y2 := j + 1) ⟨by omega, by omega⟩ ⟨by omega, by omega⟩ (nP _ _ (by omega)) (nP _ _ (by omega)) ⟨by omega, by omega⟩ ⟨by omega, by omega⟩ (.inl rfl))]
    show lab (bix l t r r (t - 1)) = 0
    rw [row _ (.inl rfl) r (by omega) (by omega)]
    exact l0
  refine ⟨nP X Y (by omega), ?_⟩
  rcases h2 with e | e | e | e
  · rw [e]; exact colm Y (by omega) (by omega)
  · rw [e]; exact colr Y (by omega) (by omega)
  · rw [e, row _ (.inl rfl) X (by omega) (by omega)]; exact l0
  · rw [e, row _ (.inr rfl) X (by omega) (by omega)]; exact colm b (by omega) (by omega)
end HolesP
