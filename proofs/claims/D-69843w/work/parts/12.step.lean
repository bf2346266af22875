/-! ===== one step of the symbolic executor ===== -/
section RhStep
/-- locals, stack, memory, known blocks (where, which, its number), next variable -/
abbrev rhSt : Type := rhLx × rhSx × rhX × List (rhX × Nat × rhX) × Nat
abbrev rhR : Type := Option (List rhX × Nat × rhSt)
abbrev rhDc : Type := Except DecodeError (Instr × Nat)
/-- the machine at a symbolic state -/
noncomputable def rh_at (w : rhW) (Y : rhY) (n : Nat) (Q : rhQ) (e : rhEn) (pc : Nat) (st : rhSt) : Prop :=
  rh_At w Y n (0, 0, 0, 0) (rh_Zq w Y Q) pc (rh_sL e st.1) (rh_sS e st.2.1) (rh_den e st.2.2.1).2.1
def rh_fl1 : rhLx → Nat → Option (Nat × rhX)
  | [], _ => none
  | q :: l, i => cond (Nat.beq q.1 i) (some q.2) (rh_fl1 l i)
theorem rh_fl1_j {e : rhEn} : ∀ {L : rhLx} {i t : Nat} {x : rhX}, rh_fl1 L i = some (t, x) → ∃ j : Nat, (rh_sL e L)[j]? = some (i, t, (rh_den e x).1)
  | [], _, _, _, h => by cases h
  | q :: l, i, t, x, h => by
    unfold rh_fl1 at h
    cases hb : Nat.beq q.1 i with
    | true =>
      rw [hb] at h
      have hq : q.2 = (t, x) := Option.some.inj h
      have hi : q.1 = i := Nat.eq_of_beq_eq_true hb
      exact ⟨0, by simp [rh_sL, hq, hi]⟩
    | false =>
      rw [hb] at h
      obtain ⟨j, hj⟩ := rh_fl1_j (e := e) (L := l) h
      exact ⟨j + 1, by simpa [rh_sL] using hj⟩
/-- a store into the locals -/
def rh_x1 (L : rhLx) (i : Nat) (a : Nat × rhX) : rhLx := (i, a) :: L.filter fun q => !(q.1 == i) && !(q.1 + 1 == i && rh_jk q.2.1)
def rh_x2 (L : rhLx) (i : Nat) (a : Nat × rhX) : rhLx := (i, a) :: L.filter fun q => !(q.1 == i) && (!(q.1 == i + 1) && !(q.1 + 1 == i && rh_jk q.2.1))
theorem rh_x1_s (e : rhEn) (L : rhLx) (i t : Nat) (x : rhX) : rh_sL e (rh_x1 L i (t, x)) = rh_s1 (rh_sL e L) i (t, (rh_den e x).1) := by
  simp only [rh_sL, rh_x1, rh_s1, List.map_cons, List.filter_map]
  rfl
theorem rh_x2_s (e : rhEn) (L : rhLx) (i t : Nat) (x : rhX) : rh_sL e (rh_x2 L i (t, x)) = rh_s2 (rh_sL e L) i (t, (rh_den e x).1) := by
  simp only [rh_sL, rh_x2, rh_s2, List.map_cons, List.filter_map]
  rfl
theorem rh_pk_all (L : rhL) : rh_pk L (List.range L.length) = L := by
  unfold rh_pk
  induction L with
  | nil => rfl
  | cons a l ih =>
    rw [List.length_cons, List.range_succ_eq_map, List.filterMap_cons]
    simp only [List.getElem?_cons_zero, List.filterMap_map]
    congr 1
/-- obligations: a number of the stack in range -/
def rh_oI (t : Nat) (x : rhX) : List rhX := cond (Nat.beq t 0) [] [.pow (.neg x) 1]
def rh_oJ (t : Nat) (x : rhX) : List rhX := cond (Nat.beq t 1) [] [.pow (.neg x) 2]
def rh_hold (e : rhEn) (l : List rhX) : Prop := ∀ o ∈ l, (rh_den e o).2.2
theorem rh_hold_a {e : rhEn} {a b : List rhX} (h : rh_hold e (a ++ b)) : rh_hold e a ∧ rh_hold e b := ⟨fun o ho => h o (List.mem_append_left _ ho), fun o ho => h o (List.mem_append_right _ ho)⟩
theorem rh_hold_c {e : rhEn} {a : rhX} {b : List rhX} (h : rh_hold e (a :: b)) : (rh_den e a).2.2 ∧ rh_hold e b := ⟨h a List.mem_cons_self, fun o ho => h o (List.mem_cons_of_mem _ ho)⟩
theorem rh_oI_ok {e : rhEn} {t : Nat} {x : rhX} (h : rh_hold e (rh_oI t x)) : t = 0 ∨ rI (rh_den e x).1 := by
  unfold rh_oI at h
  cases hb : Nat.beq t 0 with
  | true => exact .inl (Nat.eq_of_beq_eq_true hb)
  | false => rw [hb] at h; exact .inr (h _ List.mem_cons_self)
theorem rh_oJ_ok {e : rhEn} {t : Nat} {x : rhX} (h : rh_hold e (rh_oJ t x)) : t = 1 ∨ rL (rh_den e x).1 := by
  unfold rh_oJ at h
  cases hb : Nat.beq t 1 with
  | true => exact .inl (Nat.eq_of_beq_eq_true hb)
  | false => rw [hb] at h; exact .inr (h _ List.mem_cons_self)
/-- what a step owes -/
def rh_sok (w : rhW) (Y : rhY) (n : Nat) (Q : rhQ) (pc : Nat) (st : rhSt) (r : List rhX × Nat × rhSt) : Prop :=
  r.2.2.2.2.2.1 = st.2.2.2.1 ∧ ∀ e : rhEn, rh_hold e r.1 → rh_at w Y n Q e r.2.1 r.2.2 → rh_at w Y n Q e pc st
/-- loads -/
def rh_ldI (pc' i : Nat) (st : rhSt) : rhR := match rh_fl1 st.1 i with
  | some (0, x) => some ([], pc', st.1, (0, x) :: st.2.1, st.2.2)
  | _ => none
def rh_ldJ (pc' i : Nat) (st : rhSt) : rhR := match rh_fl1 st.1 i with
  | some (1, x) => some ([], pc', st.1, (1, x) :: st.2.1, st.2.2)
  | _ => none
def rh_ldA (pc' i : Nat) (st : rhSt) : rhR := match rh_fl1 st.1 i with
  | some (t, x) => cond (rh_rk t) (some ([], pc', st.1, (t, x) :: st.2.1, st.2.2)) none
  | _ => none
def rh_g1 (d : rhDc) (pc : Nat) (st : rhSt) : rhR := match d with
  | .ok (.iload_n q, 1) => rh_ldI (pc + 1) q st
  | .ok (.iload i, 2) => rh_ldI (pc + 2) i st
  | .ok (.lload_n q, 1) => rh_ldJ (pc + 1) q st
  | .ok (.lload i, 2) => rh_ldJ (pc + 2) i st
  | .ok (.aload_n q, 1) => rh_ldA (pc + 1) q st
  | .ok (.aload i, 2) => rh_ldA (pc + 2) i st
  | _ => none
variable {w : rhW} {Y : rhY} {n : Nat} {Q : rhQ} {pc : Nat} {st : rhSt} {r : List rhX × Nat × rhSt}
theorem rh_g1_ok (h : rh_g1 (decode (ry_c Y) pc) pc st = some r) : rh_sok w Y n Q pc st r := by
  unfold rh_g1 at h
  split at h
  · rename_i q hd
    unfold rh_ldI at h
    split at h
    · rename_i x hl
      obtain rfl := Option.some.inj h
      refine ⟨rfl, fun e _ K => ?_⟩
      obtain ⟨j, hj⟩ := rh_fl1_j (e := e) hl
      exact rh_ild_n (pc + 1) hd rfl hj rfl K
    · cases h
  · rename_i i hd
    unfold rh_ldI at h
    split at h
    · rename_i x hl
      obtain rfl := Option.some.inj h
      refine ⟨rfl, fun e _ K => ?_⟩
      obtain ⟨j, hj⟩ := rh_fl1_j (e := e) hl
      exact rh_ild (pc + 2) hd hj rfl K
    · cases h
  · rename_i q hd
    unfold rh_ldJ at h
    split at h
    · rename_i x hl
      obtain rfl := Option.some.inj h
      refine ⟨rfl, fun e _ K => ?_⟩
      obtain ⟨j, hj⟩ := rh_fl1_j (e := e) hl
      exact rh_lld_n (pc + 1) hd rfl hj rfl K
    · cases h
  · rename_i i hd
    unfold rh_ldJ at h
    split at h
    · rename_i x hl
      obtain rfl := Option.some.inj h
      refine ⟨rfl, fun e _ K => ?_⟩
      obtain ⟨j, hj⟩ := rh_fl1_j (e := e) hl
      exact rh_lld (pc + 2) hd hj rfl K
    · cases h
  · rename_i q hd
    unfold rh_ldA at h
    split at h
    · rename_i t x hl
      cases ht : rh_rk t with
      | false => rw [ht] at h; cases h
      | true =>
        rw [ht] at h
        obtain rfl := Option.some.inj h
        refine ⟨rfl, fun e _ K => ?_⟩
        obtain ⟨j, hj⟩ := rh_fl1_j (e := e) hl
        exact rh_ald_n (pc + 1) hd rfl hj ht rfl K
    · cases h
  · rename_i i hd
    unfold rh_ldA at h
    split at h
    · rename_i t x hl
      cases ht : rh_rk t with
      | false => rw [ht] at h; cases h
      | true =>
        rw [ht] at h
        obtain rfl := Option.some.inj h
        refine ⟨rfl, fun e _ K => ?_⟩
        obtain ⟨j, hj⟩ := rh_fl1_j (e := e) hl
        exact rh_ald (pc + 2) hd hj ht rfl K
    · cases h
  · cases h
end RhStep
