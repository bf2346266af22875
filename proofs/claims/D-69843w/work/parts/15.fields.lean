/-! ===== the symbolic executor: fields and arrays ===== -/
section RhFields
variable {w : rhW} {Y : rhY} {n : Nat} {Q : rhQ} {pc : Nat} {st : rhSt} {r : List rhX × Nat × rhSt}
/-- what a step owes, where blocks may become known -/
def rh_sk2 (w : rhW) (Y : rhY) (n : Nat) (Q : rhQ) (pc : Nat) (st : rhSt) (r : List rhX × Nat × rhSt) : Prop :=
  ∀ e : rhEn, e.2.2 = w → rh_KB e st.2.2.2.1 → rh_hold e r.1 → rh_KB e r.2.2.2.2.2.1 ∧ (rh_at w Y n Q e r.2.1 r.2.2 → rh_at w Y n Q e pc st)
theorem rh_sok.to2 (h : rh_sok w Y n Q pc st r) : rh_sk2 w Y n Q pc st r := fun e _ hk ho => ⟨by rw [h.1]; exact hk, h.2 e ho⟩
/-- a field's link: entry of the pool, classes, field, type, may it be written -/
abbrev rhFl : Type := Nat × List Nat × Nat × FieldType × Bool
def rh_gl (Y : rhY) (q : rhFl) : Prop := ∀ ci ∈ q.2.1, ∃ (own nm ds : String) (fin : Bool) (ref : String), rh_fi ci q.2.2.1 own nm ds fin q.2.2.2.1 ∧ rh_fl (ry_y Y).cls q.1 ref nm ds ∧ rh_sf ref (own, nm, ds, fin) ∧ (q.2.2.2.2 = true → fin = false)
def rh_ffl : List rhFl → Nat → Option (List Nat × Nat × FieldType × Bool)
  | [], _ => none
  | q :: l, i => cond (Nat.beq q.1 i) (some q.2) (rh_ffl l i)
theorem rh_ffl_ok {P : rhFl → Prop} : ∀ {l : List rhFl} {i : Nat} {q : List Nat × Nat × FieldType × Bool}, (∀ q ∈ l, P q) → rh_ffl l i = some q → P (i, q)
  | [], _, _, _, h => by cases h
  | a :: l, i, q, hp, h => by
    unfold rh_ffl at h
    cases hb : Nat.beq a.1 i with
    | true =>
      rw [hb] at h
      have hq : a.2 = q := Option.some.inj h
      have hi : a.1 = i := Nat.eq_of_beq_eq_true hb
      have := hp a List.mem_cons_self
      rw [show a = (i, q) from Prod.ext hi hq] at this
      exact this
    | false =>
      rw [hb] at h
      exact rh_ffl_ok (fun q hq => hp q (List.mem_cons_of_mem _ hq)) h
/-- a class's block -/
def rh_tc (cs : List Nat) : Option Nat := match cs with
  | [26] => some 0
  | [27] => some 1
  | [28] => some 2
  | [19] => some 3
  | [4, 26] => some 5
  | _ => none
def rh_cx (lo hi : Nat) (kb : List (rhX × Nat × rhX)) (cs : List Nat) (x : rhX) : Option (List rhX × List (rhX × Nat × rhX) × rhCe) := match rh_ce lo hi kb x with
  | some c => some ([], kb, c)
  | none => (match rh_tc cs with
    | some t => (match rh_ce lo hi ((x, t, .num 0) :: kb) x with
      | some c => some ([.pow (.add x (.num 0)) (30 + t)], (x, t, .num 0) :: kb, c)
      | none => none)
    | none => none)
theorem rh_cx_ok {e : rhEn} {lo hi : Nat} {kb kb' : List (rhX × Nat × rhX)} {cs : List Nat} {x : rhX} {ob : List rhX} {c : rhCe} (hs : rh_sd lo hi e.2.2) (hk : rh_KB e kb) (h : rh_cx lo hi kb cs x = some (ob, kb', c)) (ho : rh_hold e ob) : rh_KB e kb' ∧ rh_cok e x c := by
  unfold rh_cx at h
  split at h
  · rename_i c0 hc
    cases h
    exact ⟨hk, rh_ce_ok hs hk hc⟩
  · split at h
    · rename_i t ht
      split at h
      · rename_i c0 hc
        cases h
        have hb : rh_bl e.2.2 t (rh_den e x).1 0 := by
          have h1 := (rh_hold_c ho).1
          unfold rh_tc at ht
          split at ht <;> first | (obtain rfl := Option.some.inj ht; exact h1) | cases ht
        have hk2 : rh_KB e ((x, t, .num 0) :: kb) := by
          intro q hq
          rcases List.mem_cons.mp hq with h2 | h2
          · rw [h2]; exact hb
          · exact hk q h2
        exact ⟨hk2, rh_ce_ok hs hk2 hc⟩
      · cases h
    · cases h
/-- what a field gives -/
def rh_gv (c : rhCe) (M x : rhX) (kf : Nat) (ty : FieldType) : Option (Nat × rhX) := match rh_fxd c kf with
  | some y => some (2, y)
  | none => cond (rh_it ty) (some (0, .pow (.sub M (.add x (.num (kf : Int)))) 0)) (cond (decide (ty = .long)) (some (1, .pow (.sub M (.add x (.num (kf : Int)))) 0)) (cond (rh_rt ty) (some (2, .pow (.sub M (.add x (.num (kf : Int)))) 0)) none))
def rh_g7 (lo hi : Nat) (fl : List rhFl) (d : rhDc) (pc : Nat) (st : rhSt) : rhR := match d with
  | .ok (.getfield idx, 3) => (match st.2.1, rh_ffl fl idx with
    | (2, x) :: S, some (cis, kf, ty, _) => (match rh_cx lo hi st.2.2.2.1 cis x with
      | some (ob, kb, c) => (match c.1 with
        | .inl cs => cond (cs.all (fun ci => cis.contains ci) && Nat.blt kf c.2.1) (match rh_gv c st.2.2.1 x kf ty with
          | some a => some (ob, pc + 3, st.1, a :: S, st.2.2.1, kb, st.2.2.2.2)
          | none => none) none
        | .inr _ => none)
      | none => none)
    | _, _ => none)
  | _ => none
theorem rh_g7_ok {lo hi : Nat} {fl : List rhFl} (hs : rh_sd lo hi w) (hl : ∀ q ∈ fl, rh_gl Y q) (h : rh_g7 lo hi fl (decode (ry_c Y) pc) pc st = some r) : rh_sk2 w Y n Q pc st r := by
  obtain ⟨L, S0, M, kb0, nx⟩ := st
  unfold rh_g7 at h
  split at h
  · rename_i idx hd
    split at h
    · rename_i x S cis kf ty wr hS hf
      simp only at hS
      subst hS
      have hg := rh_ffl_ok hl hf
      split at h
      · rename_i ob kb c hc
        split at h
        · rename_i cs hcs
          cases hb : cs.all (fun ci => cis.contains ci) && Nat.blt kf c.2.1 with
          | false => rw [hb] at h; cases h
          | true =>
            rw [hb] at h
            simp only [Bool.and_eq_true] at hb
            have hkf := rh_blt hb.2
            simp only [cond_true] at h
            split at h
            · rename_i a ha
              obtain rfl := Option.some.inj h
              intro e hw hk ho
              subst hw
              obtain ⟨k1, k2⟩ := rh_cx_ok hs hk hc ho
              refine ⟨k1, fun K => ?_⟩
              obtain ⟨ci, hci, hob⟩ := k2.1 cs hcs
              have hin : ci ∈ cis := by simpa using List.all_eq_true.mp hb.1 ci hci
              obtain ⟨own, nm, ds, fin, ref, g1, g2, g3, -⟩ := hg ci hin
              unfold rh_gv at ha
              split at ha
              · rename_i y hy
                cases ha
                exact rh_gR (pc + 3) hob (k2.2.2.1 kf y hkf hy) hd g1 g2 g3 rfl K
              · rename_i hy
                have hfd := k2.2.2.2 kf hkf hy
                cases hi : rh_it ty with
                | true =>
                  rw [hi] at ha
                  cases ha
                  exact rh_gI (pc + 3) hob hfd hd rfl g1 g2 g3 hi rfl K
                | false =>
                  rw [hi] at ha
                  simp only [cond_false] at ha
                  cases hj : decide (ty = .long) with
                  | true =>
                    rw [hj] at ha
                    cases ha
                    exact rh_gJ (pc + 3) hob hfd hd rfl g1 g2 g3 (of_decide_eq_true hj) rfl K
                  | false =>
                    rw [hj] at ha
                    simp only [cond_false] at ha
                    cases hr : rh_rt ty with
                    | true =>
                      rw [hr] at ha
                      cases ha
                      exact rh_gD (pc + 3) hob hfd hd rfl g1 g2 g3 hr rfl K
                    | false => rw [hr] at ha; cases ha
            · cases h
        · cases h
      · cases h
    · cases h
  · cases h
/-- what a field takes: 0 int, 1 long, 2 reference, 3 boolean -/
def rh_pv (ty : FieldType) (t : Nat) (v : rhX) : Option (List rhX) := match ty with
  | .int => cond (rh_ik t) (some (rh_oI t v)) none
  | .boolean => cond (rh_ik t) (some [.pow (.neg v) 4]) none
  | .long => cond (rh_jk t) (some (rh_oJ t v)) none
  | .object _ => cond (Nat.beq t 2) (some []) none
  | .array _ => cond (Nat.beq t 2) (some []) none
  | _ => none
def rh_g8 (lo hi : Nat) (fl : List rhFl) (d : rhDc) (pc : Nat) (st : rhSt) : rhR := match d with
  | .ok (.putfield idx, 3) => (match st.2.1, rh_ffl fl idx with
    | (t, v) :: (2, x) :: S, some (cis, kf, ty, true) => (match rh_cx lo hi st.2.2.2.1 cis x with
      | some (ob, kb, c) => (match c.1, rh_fxd c kf, rh_pv ty t v with
        | .inl cs, none, some o2 => cond (cs.all (fun ci => cis.contains ci) && Nat.blt kf c.2.1) (some (ob ++ o2, pc + 3, st.1, S, .pow (.mul (.add st.2.2.1 x) (.add (.num (kf : Int)) v)) 0, kb, st.2.2.2.2)) none
        | _, _, _ => none)
      | none => none)
    | _, _ => none)
  | _ => none
theorem rh_g8_ok {lo hi : Nat} {fl : List rhFl} (hs : rh_sd lo hi w) (hl : ∀ q ∈ fl, rh_gl Y q) (h : rh_g8 lo hi fl (decode (ry_c Y) pc) pc st = some r) : rh_sk2 w Y n Q pc st r := by
  obtain ⟨L, S0, M, kb0, nx⟩ := st
  unfold rh_g8 at h
  split at h
  · rename_i idx hd
    split at h
    · rename_i t v x S cis kf ty hS hf
      simp only at hS
      subst hS
      have hg := rh_ffl_ok hl hf
      split at h
      · rename_i ob kb c hc
        split at h
        · rename_i cs o2 hcs hfx hpv
          cases hb : cs.all (fun ci => cis.contains ci) && Nat.blt kf c.2.1 with
          | false => rw [hb] at h; cases h
          | true =>
            rw [hb] at h
            simp only [Bool.and_eq_true] at hb
            have hkf := rh_blt hb.2
            obtain rfl := Option.some.inj h
            intro e hw hk ho
            subst hw
            obtain ⟨ho1, ho2⟩ := rh_hold_a ho
            obtain ⟨k1, k2⟩ := rh_cx_ok hs hk hc ho1
            refine ⟨k1, fun K => ?_⟩
            obtain ⟨ci, hci, hob⟩ := k2.1 cs hcs
            have hin : ci ∈ cis := by simpa using List.all_eq_true.mp hb.1 ci hci
            obtain ⟨own, nm, ds, fin, ref, g1, g2, g3, g4⟩ := hg ci hin
            obtain rfl := g4 rfl
            have hfd := k2.2.2.2 kf hkf hfx
            unfold rh_pv at hpv
            split at hpv
            · cases hi : rh_ik t with
              | false => rw [hi] at hpv; cases hpv
              | true =>
                rw [hi] at hpv
                cases hpv
                exact rh_pI (pc + 3) hob hfd hd rfl g1 g2 g3 hi (rh_oI_ok ho2) rfl K
            · cases hi : rh_ik t with
              | false => rw [hi] at hpv; cases hpv
              | true =>
                rw [hi] at hpv
                cases hpv
                exact rh_pZ (pc + 3) hob hfd hd rfl g1 g2 g3 hi (rh_hold_c ho2).1 rfl K
            · cases hi : rh_jk t with
              | false => rw [hi] at hpv; cases hpv
              | true =>
                rw [hi] at hpv
                cases hpv
                exact rh_pJ (pc + 3) hob hfd hd rfl g1 g2 g3 hi (rh_oJ_ok ho2) rfl K
            · cases hi : Nat.beq t 2 with
              | false => rw [hi] at hpv; cases hpv
              | true =>
                obtain rfl := Nat.eq_of_beq_eq_true hi
                exact rh_pD (pc + 3) hob hfd hd rfl g1 g2 g3 rfl rfl K
            · cases hi : Nat.beq t 2 with
              | false => rw [hi] at hpv; cases hpv
              | true =>
                obtain rfl := Nat.eq_of_beq_eq_true hi
                exact rh_pD (pc + 3) hob hfd hd rfl g1 g2 g3 rfl rfl K
            · cases hpv
        · cases h
      · cases h
    · cases h
  · cases h
end RhFields
