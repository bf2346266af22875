/-! ===== the symbolic executor: what lies where ===== -/
section RhRefs
def rh_KB (e : rhEn) (kb : List (rhX × Nat × rhX)) : Prop := ∀ q ∈ kb, rh_bl e.2.2 q.2.1 (rh_den e q.1).1 (rh_den e q.2.2).1
def rh_bo : rhX → rhX × Nat
  | .add b (.num d) => cond (decide (0 ≤ d)) (b, d.toNat) (.add b (.num d), 0)
  | x => (x, 0)
theorem rh_bo_d (e : rhEn) (x : rhX) : (rh_den e x).1 = (rh_den e (rh_bo x).1).1 + ((rh_bo x).2 : Nat) := by
  unfold rh_bo
  split
  · rename_i b d
    cases h : decide (0 ≤ d) with
    | false => simp
    | true =>
      have := of_decide_eq_true h
      simp [rh_den]
      omega
  · simp
def rh_fk : List (rhX × Nat × rhX) → rhX → Option (Nat × rhX)
  | [], _ => none
  | q :: l, x => cond (rh_xe q.1 x) (some q.2) (rh_fk l x)
theorem rh_fk_ok {e : rhEn} {x : rhX} {t : Nat} {p : rhX} : ∀ {kb : List (rhX × Nat × rhX)}, rh_KB e kb → rh_fk kb x = some (t, p) → rh_bl e.2.2 t (rh_den e x).1 (rh_den e p).1
  | [], _, h => by cases h
  | q :: l, hk, h => by
    unfold rh_fk at h
    cases hb : rh_xe q.1 x with
    | true =>
      rw [hb] at h
      have hq : q.2 = (t, p) := Option.some.inj h
      have := hk q List.mem_cons_self
      rw [hq, rh_xe_eq hb] at this
      exact this
    | false =>
      rw [hb] at h
      exact rh_fk_ok (fun q hq => hk q (List.mem_cons_of_mem _ hq)) h
def rh_ad (b : rhX) (d : Nat) : rhX := match d with
  | 0 => b
  | d + 1 => .add b (.num ((d + 1 : Nat) : Int))
theorem rh_ad_d (e : rhEn) (b : rhX) (d : Nat) : (rh_den e (rh_ad b d)).1 = (rh_den e b).1 + (d : Int) := by
  cases d with
  | zero => simp [rh_ad]
  | succ d => simp [rh_ad, rh_den]
def rh_le1 (a b : Nat) (p : rhX) : rhX := match a, b with
  | 0, b => .num (b : Int)
  | 1, 0 => p
  | a, 0 => .mul (.num (a : Int)) p
  | a, b => .add (.mul (.num (a : Int)) p) (.num (b : Int))
theorem rh_le1_d (e : rhEn) (a b : Nat) (p : rhX) : (rh_den e (rh_le1 a b p)).1 = (a : Int) * (rh_den e p).1 + (b : Int) := by
  unfold rh_le1
  split <;> simp [rh_den]
/-- a cell: its kind, how many of its fields are told, where its block begins, fixed references -/
abbrev rhCe : Type := (List Nat ⊕ (FieldType × rhX)) × Nat × Option rhX × List (Nat × Nat)
def rh_ceN (lo hi : Nat) (r : Int) : Option rhCe := cond (decide (0 ≤ r) && (Nat.ble lo r.toNat && Nat.blt r.toNat hi)) (match rh_tb2 hi r.toNat with
  | some (.inr ci, l) => some (.inl [ci], 1000, none, l)
  | some (.inl a, l) => cond (Nat.ble a.2 2147483647) (some (.inr (a.1, .num ((a.2 : Nat) : Int)), 1000, none, l)) none
  | none => none) none
def rh_ceB (kb : List (rhX × Nat × rhX)) (b : rhX) (d : Nat) : Option rhCe := match rh_fk kb b with
  | some (t, p) => (match (rh_tp t)[d]? with
    | some (.inl cs, m, l) => some (.inl cs, m, some b, l)
    | some (.inr a, m, l) => some (.inr (a.1, rh_le1 a.2.1 a.2.2 p), m, some b, l)
    | none => none)
  | none => none
def rh_ce (lo hi : Nat) (kb : List (rhX × Nat × rhX)) (x : rhX) : Option rhCe := match x with
  | .num r => rh_ceN lo hi r
  | x => rh_ceB kb (rh_bo x).1 (rh_bo x).2
def rh_fxd (c : rhCe) (k : Nat) : Option rhX := match rh_lk c.2.2.2 k with
  | some d => some (match c.2.2.1 with | none => .num (d : Int) | some b => rh_ad b d)
  | none => none
def rh_cok (e : rhEn) (x : rhX) (c : rhCe) : Prop :=
  (∀ cs, c.1 = .inl cs → ∃ ci, ci ∈ cs ∧ rh_ob e.2.2 (rh_den e x).1 ci) ∧
  (∀ ty l, c.1 = .inr (ty, l) → ∃ len : Nat, rh_ar e.2.2 (rh_den e x).1 ty len ∧ (len : Int) = (rh_den e l).1 ∧ len ≤ 2147483647) ∧
  (∀ k y, k < c.2.1 → rh_fxd c k = some y → rh_fr e.2.2 (rh_den e x).1 k (rh_den e y).1) ∧ (∀ k, k < c.2.1 → rh_fxd c k = none → rh_fd e.2.2 (rh_den e x).1 k)
theorem rh_ceN_ok {e : rhEn} {lo hi : Nat} {r : Int} {c : rhCe} (hs : rh_sd lo hi e.2.2) (h : rh_ceN lo hi r = some c) : rh_cok e (.num r) c := by
  unfold rh_ceN at h
  cases hb : decide (0 ≤ r) && (Nat.ble lo r.toNat && Nat.blt r.toNat hi) with
  | false => rw [hb] at h; cases h
  | true =>
    rw [hb] at h
    simp only [Bool.and_eq_true] at hb
    have h0 := of_decide_eq_true hb.1
    have h1 := Nat.le_of_ble_eq_true hb.2.1
    have h2 := rh_blt hb.2.2
    simp only [cond_true] at h
    split at h
    · rename_i ci l ht
      obtain rfl := Option.some.inj h
      refine ⟨fun cs hc => ?_, fun ty l hc => (by cases hc), fun k y hk hf => ?_, fun k hk hf => ?_⟩
      · cases hc
        exact ⟨ci, List.mem_singleton_self _, hs.ob h0 h1 h2 ht⟩
      · unfold rh_fxd at hf
        split at hf
        · rename_i d hd
          obtain rfl := Option.some.inj hf
          refine hs.fr h1 h2 ht ?_ ?_
          · simp [rh_den]
          · simpa [rh_den] using hd
        · cases hf
      · unfold rh_fxd at hf
        split at hf
        · cases hf
        · rename_i hd
          exact hs.fd h1 h2 ht hd
    · rename_i a l ht
      cases hl : Nat.ble a.2 2147483647 with
      | false => rw [hl] at h; cases h
      | true =>
        rw [hl] at h
        obtain rfl := Option.some.inj h
        refine ⟨fun cs hc => (by cases hc), fun ty l2 hc => ?_, fun k y hk hf => ?_, fun k hk hf => ?_⟩
        · cases hc
          exact ⟨a.2, hs.ar h0 h1 h2 ht, rfl, Nat.le_of_ble_eq_true hl⟩
        · unfold rh_fxd at hf
          split at hf
          · rename_i d hd
            obtain rfl := Option.some.inj hf
            refine hs.fr h1 h2 ht ?_ ?_
            · simp [rh_den]
            · simpa [rh_den] using hd
          · cases hf
        · unfold rh_fxd at hf
          split at hf
          · cases hf
          · rename_i hd
            exact hs.fd h1 h2 ht hd
    · cases h
theorem rh_ceB_ok {e : rhEn} {kb : List (rhX × Nat × rhX)} {x b : rhX} {d : Nat} {c : rhCe} (hx : (rh_den e x).1 = (rh_den e b).1 + (d : Nat)) (hk : rh_KB e kb) (h : rh_ceB kb b d = some c) : rh_cok e x c := by
  unfold rh_ceB at h
  split at h
  · rename_i t p hf
    have hB := rh_fk_ok hk hf
    split at h
    · rename_i cs m l hq
      obtain rfl := Option.some.inj h
      obtain ⟨a1, a2⟩ := hB.2 d _ hq
      rw [← hx] at a1 a2
      refine ⟨fun cs2 hc => ?_, fun ty l2 hc => (by cases hc), fun k y hk2 hy => ?_, fun k hk2 hy => ?_⟩
      · cases hc
        exact a1
      · have := a2 k hk2
        unfold rh_ff at this
        unfold rh_fxd at hy
        split at hy
        · rename_i d2 hd
          obtain rfl := Option.some.inj hy
          simp only at hd
          rw [hd] at this
          simp only [rh_ad_d]
          exact this
        · cases hy
      · have := a2 k hk2
        unfold rh_ff at this
        unfold rh_fxd at hy
        split at hy
        · cases hy
        · rename_i hd
          simp only at hd
          rw [hd] at this
          exact this
    · rename_i a m l hq
      obtain rfl := Option.some.inj h
      obtain ⟨a1, a2⟩ := hB.2 d _ hq
      rw [← hx] at a1 a2
      refine ⟨fun cs2 hc => (by cases hc), fun ty l2 hc => ?_, fun k y hk2 hy => ?_, fun k hk2 hy => ?_⟩
      · cases hc
        obtain ⟨len, b1, b2, b3⟩ := a1
        exact ⟨len, b1, by rw [b2, rh_le1_d], b3⟩
      · have := a2 k hk2
        unfold rh_ff at this
        unfold rh_fxd at hy
        split at hy
        · rename_i d2 hd
          obtain rfl := Option.some.inj hy
          simp only at hd
          rw [hd] at this
          simp only [rh_ad_d]
          exact this
        · cases hy
      · have := a2 k hk2
        unfold rh_ff at this
        unfold rh_fxd at hy
        split at hy
        · cases hy
        · rename_i hd
          simp only at hd
          rw [hd] at this
          exact this
    · cases h
  · cases h
theorem rh_ce_ok {e : rhEn} {lo hi : Nat} {kb : List (rhX × Nat × rhX)} {x : rhX} {c : rhCe} (hs : rh_sd lo hi e.2.2) (hk : rh_KB e kb) (h : rh_ce lo hi kb x = some c) : rh_cok e x c := by
  unfold rh_ce at h
  split at h
  · exact rh_ceN_ok hs h
  · exact rh_ceB_ok (rh_bo_d e x) hk h
end RhRefs
