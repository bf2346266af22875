/-! ===== the symbolic executor: methods in one step ===== -/
section RhInline
/-- terms that are numbers, memories; with no memory but the first -/
def rh_isI : rhX → Bool
  | .num _ => true
  | .var _ => true
  | .neg _ => true
  | .add _ _ => true
  | .sub _ _ => true
  | .mul _ _ => true
  | .pow (.neg _) k => Nat.ble 5 k
  | .pow (.add _ _) k => Nat.ble 7 k && Nat.blt k 20
  | .pow (.sub _ (.add _ _)) 0 => true
  | .pow (.sub _ (.add a b)) _ => rh_isI a && rh_isI b
  | _ => false
def rh_isM : rhX → Bool
  | .natCast _ => true
  | .pow (.mul (.add _ _) (.add _ _)) _ => true
  | .pow (.sub _ (.add _ _)) 0 => false
  | .pow (.sub _ (.add a b)) _ => rh_isM a && rh_isM b
  | _ => false
def rh_m0 : rhX → Bool
  | .num _ => true
  | .var _ => true
  | .natCast i => Nat.beq 0 i
  | .intCast _ => true
  | .neg a => rh_m0 a
  | .add a b => rh_m0 a && rh_m0 b
  | .sub a b => rh_m0 a && rh_m0 b
  | .mul a b => rh_m0 a && rh_m0 b
  | .pow a _ => rh_m0 a
theorem rh_if_s {α : Type} {P : Prop} {a : α} : rh_if P a a = a := by
  by_cases h : P
  · exact rh_if_t h
  · exact rh_if_f h
theorem rh_o1_I {k : Nat} {a : rhD} (h : 5 ≤ k) : rh_o1 k a = rh_dI (rh_o1 k a).1 := by
  unfold rh_o1
  split <;> first | omega | rfl | skip
  generalize Nat.blt _ 200 = z
  cases z <;> simp only [cond_true, cond_false]
theorem rh_o2_I {w : rhW} {k : Nat} {a b : rhD} (h : 7 ≤ k) (h2 : k < 20) : rh_o2 w k a b = rh_dI (rh_o2 w k a b).1 := by
  have hk : k = 7 ∨ k = 8 ∨ k = 9 ∨ k = 10 ∨ k = 11 ∨ k = 12 ∨ k = 13 ∨ k = 14 ∨ k = 15 ∨ k = 16 ∨ k = 17 ∨ k = 18 ∨ k = 19 := by omega
  rcases hk with rfl | rfl | rfl | rfl | rfl | rfl | rfl | rfl | rfl | rfl | rfl | rfl | rfl <;> rfl
theorem rh_isI_d {e : rhEn} : ∀ {x : rhX}, rh_isI x = true → rh_den e x = rh_dI (rh_den e x).1 := by
  intro x
  fun_induction rh_isI x with
  | case7 a k => intro h; exact rh_o1_I (Nat.le_of_ble_eq_true h)
  | case8 a b k =>
    intro h
    simp only [Bool.and_eq_true] at h
    exact rh_o2_I (Nat.le_of_ble_eq_true h.1) (rh_blt h.2)
  | case10 c a b k hk ih1 ih2 =>
    intro h
    simp only [Bool.and_eq_true] at h
    have h1 := ih1 h.1
    have h2 := ih2 h.2
    cases k with
    | zero => exact absurd rfl hk
    | succ k =>
      show (rh_if (rh_den e c).2.2 (rh_den e a).1 (rh_den e b).1, rh_if (rh_den e c).2.2 (rh_den e a).2.1 (rh_den e b).2.1, False) = _
      rw [h1, h2]
      show (_, rh_if _ (fun _ _ => 0) (fun _ _ => 0), False) = (_, fun _ _ => 0, False)
      rw [rh_if_s]
      rfl
  | case11 x => intro h; cases h
  | _ => intro _; rfl
theorem rh_isM_d {e : rhEn} : ∀ {x : rhX}, rh_isM x = true → rh_den e x = rh_dM (rh_den e x).2.1 := by
  intro x
  fun_induction rh_isM x with
  | case3 => intro h; cases h
  | case4 c a b k hk ih1 ih2 =>
    intro h
    simp only [Bool.and_eq_true] at h
    have h1 := ih1 h.1
    have h2 := ih2 h.2
    cases k with
    | zero => exact absurd rfl hk
    | succ k =>
      show (rh_if (rh_den e c).2.2 (rh_den e a).1 (rh_den e b).1, rh_if (rh_den e c).2.2 (rh_den e a).2.1 (rh_den e b).2.1, False) = _
      rw [h1, h2]
      show (rh_if _ 0 0, _, False) = (0, _, False)
      rw [rh_if_s]
      rfl
  | case5 x => intro h; cases h
  | _ => intro _; rfl
/-- the environment of a method in one step -/
noncomputable def rh_en (e : rhEn) (σ : List (Nat × rhX)) (m : rhX) : rhEn := (σ.map fun q => (q.1, (rh_den e q.2).1), [(0, (rh_den e m).2.1)], e.2.2)
theorem rh_sl_d {e : rhEn} {i : Nat} : ∀ {σ : List (Nat × rhX)}, σ.all (fun q => rh_isI q.2) = true → rh_den e (rh_sl σ i) = rh_dI (rh_vi (σ.map fun q => (q.1, (rh_den e q.2).1)) i)
  | [], _ => rfl
  | q :: l, h => by
    simp only [List.all_cons, Bool.and_eq_true] at h
    unfold rh_sl
    simp only [List.map_cons, rh_vi]
    cases hb : Nat.beq q.1 i with
    | true => exact rh_isI_d h.1
    | false => exact rh_sl_d h.2
theorem rh_sb_d {e : rhEn} {σ : List (Nat × rhX)} {m : rhX} (hσ : σ.all (fun q => rh_isI q.2) = true) (hm : rh_isM m = true) : ∀ {x : rhX}, rh_m0 x = true → rh_den e (rh_sb σ m x) = rh_den (rh_en e σ m) x := by
  intro x
  fun_induction rh_sb σ m x with
  | case1 => intro _; rfl
  | case2 i => intro _; exact rh_sl_d hσ
  | case3 i =>
    intro h
    obtain rfl := Nat.eq_of_beq_eq_true h
    exact rh_isM_d hm
  | case4 => intro _; rfl
  | case5 a ih => intro h; simp only [rh_den, ih h]
  | case6 a b ih1 ih2 => intro h; simp only [rh_m0, Bool.and_eq_true] at h; simp only [rh_den, ih1 h.1, ih2 h.2]
  | case7 a b ih1 ih2 => intro h; simp only [rh_m0, Bool.and_eq_true] at h; simp only [rh_den, ih1 h.1, ih2 h.2]
  | case8 a b ih1 ih2 => intro h; simp only [rh_m0, Bool.and_eq_true] at h; simp only [rh_den, ih1 h.1, ih2 h.2]
  | case9 a k ih => intro h; simp only [rh_m0] at h; simp only [rh_den, ih h]
  | case10 a b k ih1 ih2 => intro h; simp only [rh_m0, Bool.and_eq_true] at h; simp only [rh_den, ih1 h.1, ih2 h.2]; rfl
  | case11 a b c k ih1 ih2 ih3 => intro h; simp only [rh_m0, Bool.and_eq_true] at h; simp only [rh_den, ih1 h.1, ih2 h.2.1, ih3 h.2.2]
  | case12 a b c d k ih1 ih2 ih3 ih4 => intro h; simp only [rh_m0, Bool.and_eq_true] at h; simp only [rh_den, ih1 h.1.1, ih2 h.1.2, ih3 h.2.1, ih4 h.2.2]
  | case13 x h1 h2 h3 h4 h5 h6 h7 h8 h9 h10 h11 h12 =>
    intro _
    cases x with
    | num a => exact absurd rfl (h1 a)
    | var a => exact absurd rfl (h2 a)
    | natCast a => exact absurd rfl (h3 a)
    | intCast a => exact absurd rfl (h4 a)
    | neg a => exact absurd rfl (h5 a)
    | add a b => exact absurd rfl (h6 a b)
    | sub a b => exact absurd rfl (h7 a b)
    | mul a b => exact absurd rfl (h8 a b)
    | pow a k =>
      cases a with
      | neg a => exact absurd rfl (h9 a k)
      | add a b => exact absurd rfl (h10 a b k)
      | sub a b =>
        cases b with
        | add b c => exact absurd rfl (h11 a b c k)
        | _ => rfl
      | mul a b =>
        cases a with
        | add a a2 =>
          cases b with
          | add b c => exact absurd rfl (h12 a a2 b c k)
          | _ => rfl
        | _ => rfl
      | _ => rfl
/-- a block in a block -/
def rh_emc (q q' : rhT) (d m' : Nat) : Bool := (match q.1, q'.1 with
  | .inl cs, .inl cs' => cs.all (fun c => cs'.contains c)
  | .inr a, .inr b => decide (a.1 = b.1) && (Nat.beq a.2.1 0 && Nat.beq a.2.2 (b.2.1 * m' + b.2.2))
  | _, _ => false) && (Nat.ble q'.2.1 q.2.1 && (decide (q.2.2 = q'.2.2.map fun p => (p.1, d + p.2)) || (Nat.ble q'.2.1 10 && (List.range 10).all (fun k => decide (k < q'.2.1 → rh_lk q.2.2 k = (rh_lk q'.2.2 k).map fun z => d + z)))))
def rh_emb (t d t' m' : Nat) : Bool := (List.range (rh_tp t').length).all fun j => match (rh_tp t)[d + j]?, (rh_tp t')[j]? with
  | some q, some q' => rh_emc q q' d m'
  | _, _ => false
theorem rh_emb_ok {w : rhW} {t d t' m' : Nat} {o m : Int} (h : rh_bl w t o m) (hc : rh_emb t d t' m' = true) : rh_bl w t' (o + d) m' := by
  obtain ⟨h0, h⟩ := h
  refine ⟨by omega, fun j q' hq' => ?_⟩
  have hj : j < (rh_tp t').length := (List.getElem?_eq_some_iff.mp hq').1
  have h1 := List.all_eq_true.mp hc j (List.mem_range.mpr hj)
  rw [hq'] at h1
  cases hq : (rh_tp t)[d + j]? with
  | none => rw [hq] at h1; cases h1
  | some q =>
    rw [hq] at h1
    simp only at h1
    unfold rh_emc at h1
    simp only [Bool.and_eq_true] at h1
    obtain ⟨h2, h3, h4⟩ := h1
    obtain ⟨a1, a2⟩ := h (d + j) q hq
    have hx : o + ((d + j : Nat) : Int) = o + (d : Int) + (j : Int) := by omega
    rw [hx] at a1 a2
    refine ⟨?_, fun k hk => ?_⟩
    · unfold rh_kc at a1 ⊢
      cases h5 : q.1 with
      | inl cs =>
        rw [h5] at a1 h2
        cases h6 : q'.1 with
        | inr b => rw [h6] at h2; cases h2
        | inl cs' =>
          rw [h6] at h2
          obtain ⟨ci, c1, c2⟩ := a1
          exact ⟨ci, by simpa using List.all_eq_true.mp h2 ci c1, c2⟩
      | inr a =>
        rw [h5] at a1 h2
        cases h6 : q'.1 with
        | inl b => rw [h6] at h2; cases h2
        | inr b =>
          rw [h6] at h2
          simp only [Bool.and_eq_true, decide_eq_true_eq] at h2
          obtain ⟨len, b1, b2, b3⟩ := a1
          have e1 := Nat.eq_of_beq_eq_true h2.2.1
          have e2 := Nat.eq_of_beq_eq_true h2.2.2
          refine ⟨len, by rw [← h2.1]; exact b1, ?_, b3⟩
          rw [b2, e1, e2]
          simp
    · have h7 := a2 k (Nat.lt_of_lt_of_le hk (Nat.le_of_ble_eq_true h3))
      have h8 : rh_lk q.2.2 k = (rh_lk q'.2.2 k).map fun z => d + z := by
        simp only [Bool.or_eq_true, Bool.and_eq_true] at h4
        rcases h4 with h4 | h4
        · rw [of_decide_eq_true h4, rh_lkm]
        · have h9 := Nat.le_of_ble_eq_true h4.1
          exact of_decide_eq_true (List.all_eq_true.mp h4.2 k (List.mem_range.mpr (by omega))) hk
      unfold rh_ff at h7 ⊢
      rw [h8] at h7
      cases h9 : rh_lk q'.2.2 k with
      | none => rw [h9] at h7; exact h7
      | some z =>
        rw [h9] at h7
        simp only [Option.map_some] at h7
        show rh_fr w (o + (d : Int) + (j : Int)) k (o + (d : Int) + (z : Int))
        rw [show o + (d : Int) + (z : Int) = o + ((d + z : Nat) : Int) by omega]
        exact h7
/-- a block that a method asks for: known, or owed -/
def rh_kq (lo hi : Nat) (kb : List (rhX × Nat × rhX)) (y : rhX) (t : Nat) (p : rhX) : List rhX := match y, p with
  | .num o, .num m => cond (decide (0 ≤ o) && (decide (0 ≤ m) && rh_btc t o.toNat m.toNat lo hi)) [] [.pow (.add y p) (30 + t)]
  | y, .num m => (match rh_fk kb (rh_bo y).1 with
    | some (t0, p0) => cond ((Nat.beq t0 t && (Nat.beq (rh_bo y).2 0 && rh_xe p0 p)) || (decide (0 ≤ m) && rh_emb t0 (rh_bo y).2 t m.toNat)) [] [.pow (.add y p) (30 + t)]
    | none => [.pow (.add y p) (30 + t)])
  | y, p => [.pow (.add y p) (30 + t)]
theorem rh_kq_ob {e : rhEn} {y p : rhX} {t : Nat} (ho : rh_hold e [.pow (.add y p) (30 + t)]) : rh_bl e.2.2 t (rh_den e y).1 (rh_den e p).1 := by
  have h1 := (rh_hold_c ho).1
  have h2 : ∀ (w : rhW) (a b : rhD), rh_o2 w (30 + t) a b = rh_dP (rh_bl w t a.1 b.1) := by
    intro w a b
    show rh_o2 w (30 + t) a b = _
    unfold rh_o2
    split <;> first | omega | skip
    rw [show 30 + t - 30 = t by omega]
  have h3 : (rh_o2 e.2.2 (30 + t) (rh_den e y) (rh_den e p)).2.2 := h1
  rw [h2] at h3
  exact h3
theorem rh_kq_ok {e : rhEn} {lo hi : Nat} {kb : List (rhX × Nat × rhX)} {y p : rhX} {t : Nat} (hs : rh_sd lo hi e.2.2) (hk : rh_KB e kb) (ho : rh_hold e (rh_kq lo hi kb y t p)) : rh_bl e.2.2 t (rh_den e y).1 (rh_den e p).1 := by
  unfold rh_kq at ho
  split at ho
  · rename_i o m
    cases hb : decide (0 ≤ o) && (decide (0 ≤ m) && rh_btc t o.toNat m.toNat lo hi) with
    | false => rw [hb] at ho; exact rh_kq_ob ho
    | true =>
      simp only [Bool.and_eq_true, decide_eq_true_eq] at hb
      have := rh_bl.of hs hb.2.2
      rw [Int.toNat_of_nonneg hb.1, Int.toNat_of_nonneg hb.2.1] at this
      exact this
  · rename_i m _
    split at ho
    · rename_i t0 p0 hf
      have hB := rh_fk_ok hk hf
      cases hb : (Nat.beq t0 t && (Nat.beq (rh_bo y).2 0 && rh_xe p0 (.num m))) || (decide (0 ≤ m) && rh_emb t0 (rh_bo y).2 t m.toNat) with
      | false => rw [hb] at ho; exact rh_kq_ob ho
      | true =>
        have hd := rh_bo_d e y
        simp only [Bool.or_eq_true, Bool.and_eq_true, decide_eq_true_eq] at hb
        rcases hb with ⟨b1, b2, b3⟩ | ⟨b1, b2⟩
        · obtain rfl := Nat.eq_of_beq_eq_true b1
          rw [Nat.eq_of_beq_eq_true b2] at hd
          rw [rh_xe_eq b3] at hB
          rw [hd]
          simpa using hB
        · have h3 := rh_emb_ok hB b2
          rw [Int.toNat_of_nonneg b1, ← hd] at h3
          exact h3
    · exact rh_kq_ob ho
  · exact rh_kq_ob ho
/-- a method in one step: entry of the pool, does it have a receiver, its arguments' sorts, blocks it asks for, what it owes, answer, memory -/
abbrev rhIl : Type := Nat × Bool × List Nat × List (rhX × Nat × rhX) × List rhX × List (Nat × rhX) × rhX
def rh_num {α : Type} : Nat → List α → List (Nat × α)
  | _, [] => []
  | i, x :: l => (i, x) :: rh_num (i + 1) l
theorem rh_num_map {α β : Type} (f : α → β) : ∀ (i : Nat) (l : List α), rh_num i (l.map f) = (rh_num i l).map fun q => (q.1, f q.2)
  | _, [] => rfl
  | i, x :: l => by simp only [List.map_cons, rh_num, rh_num_map f (i + 1) l]
def rh_il (w : rhW) (Y : rhY) (h : Nat) (q : rhIl) : Prop := ∀ (n : Nat) (Q : rhQ) (pc : Nat) (L : rhL) (S1 : List rhA) (xs : List Int) (M : rhM),
  (decode (ry_c Y) pc = .ok (.invokestatic q.1, 3) ∧ q.2.1 = false ∨ decode (ry_c Y) pc = .ok (.invokevirtual q.1, 3) ∧ q.2.1 = true) → xs.length = q.2.2.1.length → rh_wd S1 ≤ 8 →
  rh_KB (rh_num 0 xs, [(0, M)], w) q.2.2.2.1 → rh_hold (rh_num 0 xs, [(0, M)], w) q.2.2.2.2.1 →
  rh_AT w Y (n + h) Q (pc + 3) L (rh_sS (rh_num 0 xs, [(0, M)], w) q.2.2.2.2.2.1 ++ S1) (rh_den (rh_num 0 xs, [(0, M)], w) q.2.2.2.2.2.2).2.1 →
  rh_AT w Y (n + h) Q pc L ((q.2.2.1.zip xs).reverse ++ S1) M
def rh_fil : List rhIl → Nat → Option (Bool × List Nat × List (rhX × Nat × rhX) × List rhX × List (Nat × rhX) × rhX)
  | [], _ => none
  | q :: l, i => cond (Nat.beq q.1 i) (some q.2) (rh_fil l i)
theorem rh_fil_ok {P : rhIl → Prop} : ∀ {l : List rhIl} {i : Nat} {q : Bool × List Nat × List (rhX × Nat × rhX) × List rhX × List (Nat × rhX) × rhX}, (∀ q ∈ l, P q) → rh_fil l i = some q → P (i, q)
  | [], _, _, _, h => by cases h
  | a :: l, i, q, hp, h => by
    unfold rh_fil at h
    cases hb : Nat.beq a.1 i with
    | true =>
      rw [hb] at h
      have hq : a.2 = q := Option.some.inj h
      have hi : a.1 = i := Nat.eq_of_beq_eq_true hb
      have := hp a List.mem_cons_self
      rw [show a = (i, q) from Prod.ext hi hq] at this
      exact this
    | false =>
      rw [hb] at h
      exact rh_fil_ok (fun q hq => hp q (List.mem_cons_of_mem _ hq)) h
/-- arguments off the stack, the last first: what is owed for them, the terms, the rest -/
def rh_pa : List Nat → rhSx → Option (List rhX × List rhX × rhSx)
  | [], S => some ([], [], S)
  | t :: ts, (u, x) :: S => (match t with
    | 0 => cond (rh_ik u && rh_isI x) (match rh_pa ts S with
      | some (o, xs, S1) => some (rh_oI u x ++ o, x :: xs, S1)
      | none => none) none
    | 1 => cond (rh_jk u && rh_isI x) (match rh_pa ts S with
      | some (o, xs, S1) => some (rh_oJ u x ++ o, x :: xs, S1)
      | none => none) none
    | 2 => cond (Nat.beq u 2 && rh_isI x) (match rh_pa ts S with
      | some (o, xs, S1) => some (o, x :: xs, S1)
      | none => none) none
    | _ => none)
  | _, _ => none
theorem rh_pa_ok {w : rhW} {Y : rhY} {n : Nat} {Q : rhQ} {pc : Nat} {L : rhL} {M : rhM} {e : rhEn} : ∀ {ts : List Nat} {S S1 : rhSx} {o xs : List rhX} (P0 : List rhA), rh_pa ts S = some (o, xs, S1) → rh_hold e o →
    xs.length = ts.length ∧ xs.all rh_isI = true ∧ (rh_AT w Y n Q pc L (P0 ++ ts.zip (xs.map fun x => (rh_den e x).1) ++ rh_sS e S1) M → rh_AT w Y n Q pc L (P0 ++ rh_sS e S) M)
  | [], S, S1, o, xs, P0, h, _ => by
    unfold rh_pa at h
    cases h
    exact ⟨rfl, rfl, fun K => by simpa using K⟩
  | t :: ts, [], S1, o, xs, P0, h, _ => by cases h
  | t :: ts, (u, x) :: S, S1, o, xs, P0, h, ho => by
    unfold rh_pa at h
    have step : ∀ (t : Nat) (o2 xs2 : List rhX), rh_pa ts S = some (o2, xs2, S1) → rh_hold e o2 → rh_isI x = true → (rh_a w (u, (rh_den e x).1) = rh_a w (t, (rh_den e x).1)) → (rh_ok (u, (rh_den e x).1) → rh_ok (t, (rh_den e x).1)) →
        (x :: xs2).length = (t :: ts).length ∧ (x :: xs2).all rh_isI = true ∧ (rh_AT w Y n Q pc L (P0 ++ (t :: ts).zip ((x :: xs2).map fun x => (rh_den e x).1) ++ rh_sS e S1) M → rh_AT w Y n Q pc L (P0 ++ rh_sS e ((u, x) :: S)) M) := by
      intro t o2 xs2 h2 ho2 hi ha hok
      obtain ⟨a1, a2, a3⟩ := rh_pa_ok (w := w) (Y := Y) (n := n) (Q := Q) (pc := pc) (L := L) (M := M) (P0 ++ [(t, (rh_den e x).1)]) h2 ho2
      refine ⟨by simp [a1], by simp [hi]; simpa using a2, fun K => ?_⟩
      have K2 := a3 (by simpa using K)
      refine rh_chg (S' := P0 ++ [(t, (rh_den e x).1)] ++ rh_sS e S) ?_ ?_ K2
      · simp [rh_sS, ha]
      · intro hz z hz2
        simp only [List.append_assoc, List.mem_append, List.mem_cons, List.not_mem_nil, or_false, List.singleton_append] at hz2
        rcases hz2 with h3 | h3 | h3
        · exact hz z (List.mem_append_left _ h3)
        · rw [h3]
          exact hok (hz _ (List.mem_append_right _ (by simp [rh_sS])))
        · exact hz z (List.mem_append_right _ (by simp [rh_sS] at h3 ⊢; exact Or.inr h3))
    split at h
    · cases hb : rh_ik u && rh_isI x with
      | false => rw [hb] at h; cases h
      | true =>
        rw [hb] at h
        simp only [cond_true] at h
        simp only [Bool.and_eq_true] at hb
        split at h
        · rename_i o2 xs2 S2 h2
          cases h
          obtain ⟨ho1, ho2⟩ := rh_hold_a ho
          refine step 0 o2 xs2 h2 ho2 hb.2 ?_ (fun hz => rh_oki hz (rh_oI_ok ho1))
          rw [rh_a_i hb.1]; rfl
        · cases h
    · cases hb : rh_jk u && rh_isI x with
      | false => rw [hb] at h; cases h
      | true =>
        rw [hb] at h
        simp only [cond_true] at h
        simp only [Bool.and_eq_true] at hb
        split at h
        · rename_i o2 xs2 S2 h2
          cases h
          obtain ⟨ho1, ho2⟩ := rh_hold_a ho
          refine step 1 o2 xs2 h2 ho2 hb.2 ?_ (fun hz => rh_okj hz (rh_oJ_ok ho1))
          rw [rh_a_j hb.1]; rfl
        · cases h
    · cases hb : Nat.beq u 2 && rh_isI x with
      | false => rw [hb] at h; cases h
      | true =>
        rw [hb] at h
        simp only [cond_true] at h
        simp only [Bool.and_eq_true] at hb
        obtain rfl := Nat.eq_of_beq_eq_true hb.1
        split at h
        · rename_i o2 xs2 S2 h2
          cases h
          exact step 2 _ _ h2 ho hb.2 rfl id
        · cases h
    · cases h
def rh_wx : rhSx → Nat
  | [] => 0
  | q :: l => (if rh_jk q.1 then 2 else 1) + rh_wx l
theorem rh_wx_d (e : rhEn) : ∀ (S : rhSx), rh_wd (rh_sS e S) = rh_wx S
  | [] => rfl
  | q :: l => by
    have := rh_wx_d e l
    simp only [rh_sS, List.map_cons] at this ⊢
    simp only [rh_wd, rh_wx, this]
/-- what need not be said -/
def rh_tv (o : rhX) : Bool := match o with
  | .pow (.add (.num a) (.num b)) 0 => decide (a < b)
  | .pow (.add (.num a) (.num b)) 1 => decide (a ≤ b)
  | .pow (.add a b) 2 => rh_xe a b
  | .pow (.add (.pow (.add (.num a) (.num b)) 1) (.pow (.add (.num c) (.num d)) 0)) 4 => decide (a ≤ b) && decide (c < d)
  | .pow (.neg (.num a)) 1 => decide (rI a)
  | .pow (.neg (.num a)) 2 => decide (rL a)
  | .pow (.add _ (.pow (.add (.num a) (.num b)) 1)) 6 => decide (a ≤ b)
  | _ => false
theorem rh_tv_ok {e : rhEn} {o : rhX} (h : rh_tv o = true) : (rh_den e o).2.2 := by
  unfold rh_tv at h
  split at h
  · have h2 := of_decide_eq_true h; exact h2
  · have h2 := of_decide_eq_true h; exact h2
  · rename_i a b
    show (rh_den e a).1 = (rh_den e b).1
    rw [rh_xe_eq h]
  · simp only [Bool.and_eq_true, decide_eq_true_eq] at h
    exact h
  · have h2 := of_decide_eq_true h; exact h2
  · have h2 := of_decide_eq_true h; exact h2
  · intro _
    have h2 := of_decide_eq_true h; exact h2
  · cases h
def rh_flt (l : List rhX) : List rhX := l.filter fun o => !(rh_tv o)
theorem rh_flt_ok {e : rhEn} {l : List rhX} (h : rh_hold e (rh_flt l)) : rh_hold e l := by
  intro o ho
  cases ht : rh_tv o with
  | true => exact rh_tv_ok ht
  | false => exact h o (List.mem_filter.mpr ⟨ho, by simp [ht]⟩)
def rh_inv (lo hi : Nat) (vt : Bool) (il : List rhIl) (idx pc : Nat) (st : rhSt) : rhR := match rh_fil il idx with
  | some (v, ts, kbs, ob, res, mem) => cond (Bool.xor v vt) none (match rh_pa ts.reverse st.2.1 with
    | some (o1, xs, S1) => cond (Nat.ble (rh_wx S1) 8 && (rh_isM st.2.2.1 && (kbs.all (fun q => rh_m0 q.1 && rh_m0 q.2.2) && (ob.all rh_m0 && (res.all (fun q => rh_m0 q.2) && rh_m0 mem)))))
      (some (o1 ++ ((kbs.map fun q => rh_kq lo hi st.2.2.2.1 (rh_sb (rh_num 0 xs.reverse) st.2.2.1 q.1) q.2.1 (rh_sb (rh_num 0 xs.reverse) st.2.2.1 q.2.2)).flatten ++ rh_flt (ob.map (rh_sb (rh_num 0 xs.reverse) st.2.2.1))), pc + 3, st.1,
        (res.map fun q => (q.1, rh_sb (rh_num 0 xs.reverse) st.2.2.1 q.2)) ++ S1, rh_sb (rh_num 0 xs.reverse) st.2.2.1 mem, st.2.2.2)) none
    | none => none)
  | none => none
def rh_gC (lo hi : Nat) (il : List rhIl) (d : rhDc) (pc : Nat) (st : rhSt) : rhR := match d with
  | .ok (.invokestatic idx, 3) => rh_inv lo hi false il idx pc st
  | .ok (.invokevirtual idx, 3) => rh_inv lo hi true il idx pc st
  | _ => none
theorem rh_num_all {α : Type} (p : α → Bool) : ∀ (i : Nat) (l : List α), (rh_num i l).all (fun q => p q.2) = l.all p
  | _, [] => rfl
  | i, x :: l => by simp only [rh_num, List.all_cons, rh_num_all p (i + 1) l]
theorem rh_zr : ∀ (a : List Nat) (b : List Int), a.length = b.length → (a.zip b).reverse = a.reverse.zip b.reverse
  | [], [], _ => rfl
  | [], _ :: _, h => by simp at h
  | _ :: _, [], h => by simp at h
  | x :: a, y :: b, h => by
    have h2 : a.length = b.length := by simpa using h
    rw [List.zip_cons_cons, List.reverse_cons, List.reverse_cons, List.reverse_cons, rh_zr a b h2, List.zip_append (by simp [h2])]
    rfl
theorem rh_inv_ok {w : rhW} {Y : rhY} {n h lo hi : Nat} {Q : rhQ} {vt : Bool} {il : List rhIl} {idx pc : Nat} {st : rhSt} {r : List rhX × Nat × rhSt} (hs : rh_sd lo hi w) (hl : ∀ q ∈ il, rh_il w Y h q) (hd : decode (ry_c Y) pc = .ok (.invokestatic idx, 3) ∧ vt = false ∨ decode (ry_c Y) pc = .ok (.invokevirtual idx, 3) ∧ vt = true) (hr : rh_inv lo hi vt il idx pc st = some r) : rh_sk2 w Y (n + h) Q pc st r := by
  obtain ⟨L, S0, M, kb, nx⟩ := st
  unfold rh_inv at hr
  split at hr
  · rename_i v ts kbs ob res mem hf
    have hq := rh_fil_ok hl hf
    cases hv : Bool.xor v vt with
    | true => rw [hv] at hr; cases hr
    | false =>
      have hv : v = vt := by cases v <;> cases vt <;> simp at hv ⊢
      subst hv
      rw [show Bool.xor v v = false by cases v <;> rfl] at hr
      simp only [cond_false] at hr
      split at hr
      · rename_i o1 xs S1 hp
        cases hb : Nat.ble (rh_wx S1) 8 && (rh_isM M && (kbs.all (fun q => rh_m0 q.1 && rh_m0 q.2.2) && (ob.all rh_m0 && (res.all (fun q => rh_m0 q.2) && rh_m0 mem)))) with
        | false => rw [hb] at hr; cases hr
        | true =>
          rw [hb] at hr
          simp only [Bool.and_eq_true] at hb
          obtain ⟨b1, b2, b3, b4, b5, b6⟩ := hb
          obtain rfl := Option.some.inj hr
          intro e hw hk ho
          subst hw
          refine ⟨hk, fun K => ?_⟩
          obtain ⟨ho1, ho2⟩ := rh_hold_a ho
          obtain ⟨ho2, ho3⟩ := rh_hold_a ho2
          obtain ⟨a1, a2, a3⟩ := rh_pa_ok (w := e.2.2) (Y := Y) (n := n + h) (Q := Q) (pc := pc) (L := rh_sL e L) (M := (rh_den e M).2.1) [] hp ho1
          have hσ : (rh_num 0 xs.reverse).all (fun q => rh_isI q.2) = true := by rw [rh_num_all, List.all_reverse]; exact a2
          have hen : rh_en e (rh_num 0 xs.reverse) M = (rh_num 0 (xs.reverse.map fun x => (rh_den e x).1), [(0, (rh_den e M).2.1)], e.2.2) := by
            unfold rh_en
            rw [← rh_num_map (fun x => (rh_den e x).1)]
          have hsb : ∀ x : rhX, rh_m0 x = true → rh_den e (rh_sb (rh_num 0 xs.reverse) M x) = rh_den (rh_num 0 (xs.reverse.map fun x => (rh_den e x).1), [(0, (rh_den e M).2.1)], e.2.2) x := by
            intro x hx
            rw [rh_sb_d hσ b2 hx, hen]
          unfold rh_at
          refine a3 ?_
          have hz : ts.reverse.zip (xs.map fun x => (rh_den e x).1) = (ts.zip (xs.reverse.map fun x => (rh_den e x).1)).reverse := by
            rw [rh_zr _ _ (by simpa using a1.symm), List.map_reverse, List.reverse_reverse]
          rw [List.nil_append, hz]
          refine hq n Q pc _ (rh_sS e S1) (xs.reverse.map fun x => (rh_den e x).1) _ hd (by simpa using a1) (by rw [rh_wx_d]; exact Nat.le_of_ble_eq_true b1) ?_ ?_ ?_
          · intro q hq2
            have hm := List.all_eq_true.mp b3 q hq2
            simp only [Bool.and_eq_true] at hm
            have h3 := rh_kq_ok (y := rh_sb (rh_num 0 xs.reverse) M q.1) (t := q.2.1) (p := rh_sb (rh_num 0 xs.reverse) M q.2.2) hs hk (fun o ho => ho2 o (List.mem_flatten.mpr ⟨_, List.mem_map.mpr ⟨q, hq2, rfl⟩, ho⟩))
            rw [hsb _ hm.1, hsb _ hm.2] at h3
            exact h3
          · intro o ho
            have h3 := rh_flt_ok ho3 _ (List.mem_map.mpr ⟨o, ho, rfl⟩)
            rw [hsb o (List.all_eq_true.mp b4 o ho)] at h3
            exact h3
          · have K2 := K
            unfold rh_at at K2
            have hS : rh_sS e ((res.map fun q => (q.1, rh_sb (rh_num 0 xs.reverse) M q.2)) ++ S1) = rh_sS (rh_num 0 (xs.reverse.map fun x => (rh_den e x).1), [(0, (rh_den e M).2.1)], e.2.2) res ++ rh_sS e S1 := by
              unfold rh_sS
              rw [List.map_append, List.map_map]
              congr 1
              apply List.map_congr_left
              intro q hq2
              have hm := List.all_eq_true.mp b5 q hq2
              simp only [Function.comp, hsb q.2 hm]
            simp only [hS, hsb mem b6] at K2
            exact K2
      · cases hr
  · cases hr
theorem rh_gC_ok {w : rhW} {Y : rhY} {n h lo hi : Nat} {Q : rhQ} {il : List rhIl} {pc : Nat} {st : rhSt} {r : List rhX × Nat × rhSt} (hs : rh_sd lo hi w) (hl : ∀ q ∈ il, rh_il w Y h q) (hr : rh_gC lo hi il (decode (ry_c Y) pc) pc st = some r) : rh_sk2 w Y (n + h) Q pc st r := by
  unfold rh_gC at hr
  split at hr
  · rename_i idx hd
    exact rh_inv_ok hs hl (.inl ⟨hd, rfl⟩) hr
  · rename_i idx hd
    exact rh_inv_ok hs hl (.inr ⟨hd, rfl⟩) hr
  · cases hr
end RhInline
