/-! ===== the symbolic executor: tests, arms, regions ===== -/
section RhExec
/-- fewer locals -/
theorem rh_lessM {w : rhW} {Y : rhY} {n : Nat} {k : Nat × Nat × Nat × Nat} {Z : List Frame → Array Value → State → State → Prop} {pc : Nat} {L L' : rhL} {S : List rhA} {M : rhM} (h : ∀ z ∈ L', z ∈ L) (K : rh_At w Y n k Z pc L' S M) : rh_At w Y n k Z pc L S M := by
  intro p l e R s m args below meth c H locs ls C D
  obtain ⟨d1, d2, d3, d4, d5, d6⟩ := D
  refine K p l e R s m args below meth c H locs ls C ⟨d1, fun z hz => d2 z (h z hz), d3, d4, d5, d6.1, d6.2.1, fun q hq => ?_⟩
  obtain ⟨z, hz, rfl⟩ := List.mem_map.mp hq
  exact d6.2.2 _ (List.mem_map.mpr ⟨z, h z hz, rfl⟩)
/-- not, told the short way -/
def rh_neg (c : rhX) : rhX := match c with
  | .pow (.add a b) 0 => .pow (.add b a) 1
  | .pow (.add a b) 1 => .pow (.add b a) 0
  | .pow (.add a b) 2 => .pow (.add a b) 3
  | .pow (.add a b) 3 => .pow (.add a b) 2
  | .pow (.neg a) 0 => a
  | c => .pow (.neg c) 0
theorem rh_neg_d {e : rhEn} {c : rhX} : (rh_den e (rh_neg c)).2.2 ↔ ¬ (rh_den e c).2.2 := by
  unfold rh_neg
  split
  · rename_i a b
    show (rh_den e b).1 ≤ (rh_den e a).1 ↔ ¬ (rh_den e a).1 < (rh_den e b).1
    omega
  · rename_i a b
    show (rh_den e b).1 < (rh_den e a).1 ↔ ¬ (rh_den e a).1 ≤ (rh_den e b).1
    omega
  · exact Iff.rfl
  · rename_i a b
    show (rh_den e a).1 = (rh_den e b).1 ↔ ¬ (rh_den e a).1 ≠ (rh_den e b).1
    omega
  · rename_i a
    show (rh_den e a).2.2 ↔ ¬ ¬ (rh_den e a).2.2
    exact Classical.not_not.symm
  · exact Iff.rfl
abbrev rh_T : rhX := .intCast 1
abbrev rh_Fx : rhX := .pow (.neg (.intCast 1)) 0
def rh_cb (c a b : rhX) : rhX := cond (rh_xe a rh_T) (cond (rh_xe b rh_Fx) c (cond (rh_xe b rh_T) rh_T (.pow (.add c b) 5)))
  (cond (rh_xe a rh_Fx) (cond (rh_xe b rh_T) (rh_neg c) (cond (rh_xe b rh_Fx) rh_Fx (.pow (.add (rh_neg c) b) 4)))
    (cond (rh_xe b rh_T) (.pow (.add (rh_neg c) a) 5) (cond (rh_xe b rh_Fx) (.pow (.add c a) 4) (.pow (.add (.pow (.add c a) 4) (.pow (.add (rh_neg c) b) 4)) 5))))
theorem rh_cb_d {e : rhEn} {c a b : rhX} : (rh_den e (rh_cb c a b)).2.2 ↔ ((rh_den e c).2.2 ∧ (rh_den e a).2.2) ∨ (¬ (rh_den e c).2.2 ∧ (rh_den e b).2.2) := by
  have hT : (rh_den e rh_T).2.2 ↔ True := Iff.rfl
  have hF : (rh_den e rh_Fx).2.2 ↔ False := ⟨fun h => h trivial, False.elim⟩
  have h4 : ∀ x y : rhX, (rh_den e (.pow (.add x y) 4)).2.2 ↔ (rh_den e x).2.2 ∧ (rh_den e y).2.2 := fun x y => Iff.rfl
  have h5 : ∀ x y : rhX, (rh_den e (.pow (.add x y) 5)).2.2 ↔ (rh_den e x).2.2 ∨ (rh_den e y).2.2 := fun x y => Iff.rfl
  have hn := rh_neg_d (e := e) (c := c)
  unfold rh_cb
  cases a1 : rh_xe a rh_T with
  | true =>
    obtain rfl := rh_xe_eq a1
    cases b1 : rh_xe b rh_Fx with
    | true => obtain rfl := rh_xe_eq b1; simp only [cond_true, hT, hF]; simp
    | false =>
      cases b2 : rh_xe b rh_T with
      | true => obtain rfl := rh_xe_eq b2; simp only [cond_true, cond_false, hT]; simp [Classical.em]
      | false =>
        simp only [cond_true, cond_false, hT, h5]
        by_cases hc : (rh_den e c).2.2 <;> simp [hc]
  | false =>
    cases a2 : rh_xe a rh_Fx with
    | true =>
      obtain rfl := rh_xe_eq a2
      cases b1 : rh_xe b rh_T with
      | true => obtain rfl := rh_xe_eq b1; simp only [cond_true, cond_false, hT, hF, hn]; simp
      | false =>
        cases b2 : rh_xe b rh_Fx with
        | true => obtain rfl := rh_xe_eq b2; simp only [cond_true, cond_false, hF]; simp
        | false => simp only [cond_true, cond_false, hF, h4, hn]; simp
    | false =>
      cases b1 : rh_xe b rh_T with
      | true =>
        obtain rfl := rh_xe_eq b1
        simp only [cond_true, cond_false, hT, h5, hn]
        by_cases hc : (rh_den e c).2.2 <;> simp [hc]
      | false =>
        cases b2 : rh_xe b rh_Fx with
        | true => obtain rfl := rh_xe_eq b2; simp only [cond_true, cond_false, hF, h4]; simp
        | false => simp only [cond_false, h4, h5, hn]
/-- one or the other -/
def rh_it2 (c a b : rhX) : rhX := cond (rh_xe a b) a (match a, b with
  | .num 0, .num 1 => .pow (.sub (rh_neg c) (.add (.num 1) (.num 0))) 1
  | a, b => .pow (.sub c (.add a b)) 1)
theorem rh_it2_t {e : rhEn} {c a b : rhX} (h : (rh_den e c).2.2) : (rh_den e (rh_it2 c a b)).1 = (rh_den e a).1 ∧ (rh_den e (rh_it2 c a b)).2.1 = (rh_den e a).2.1 := by
  unfold rh_it2
  cases hb : rh_xe a b with
  | true => exact ⟨rfl, rfl⟩
  | false =>
    simp only [cond_false]
    split
    · have hn : ¬ (rh_den e (rh_neg c)).2.2 := fun hn => rh_neg_d.mp hn h
      constructor
      · show rh_if (rh_den e (rh_neg c)).2.2 1 0 = _
        rw [rh_if_f hn]; rfl
      · show rh_if (rh_den e (rh_neg c)).2.2 (fun _ _ => 0) (fun _ _ => 0) = _
        rw [rh_if_s]; rfl
    · exact ⟨rh_if_t h, rh_if_t h⟩
theorem rh_it2_f {e : rhEn} {c a b : rhX} (h : ¬ (rh_den e c).2.2) : (rh_den e (rh_it2 c a b)).1 = (rh_den e b).1 ∧ (rh_den e (rh_it2 c a b)).2.1 = (rh_den e b).2.1 := by
  unfold rh_it2
  cases hb : rh_xe a b with
  | true => obtain rfl := rh_xe_eq hb; exact ⟨rfl, rfl⟩
  | false =>
    simp only [cond_false]
    split
    · have hn : (rh_den e (rh_neg c)).2.2 := rh_neg_d.mpr h
      constructor
      · show rh_if (rh_den e (rh_neg c)).2.2 1 0 = _
        rw [rh_if_t hn]; rfl
      · show rh_if (rh_den e (rh_neg c)).2.2 (fun _ _ => 0) (fun _ _ => 0) = _
        rw [rh_if_s]; rfl
    · exact ⟨rh_if_f h, rh_if_f h⟩
/-- branches: the test, what is owed, where it goes, where on, what is left -/
abbrev rhBr : Type := Option (rhX × List rhX × Nat × Nat × rhSt)
def rh_bj2 (f : rhX → rhX → rhX) (off : Int) (pc : Nat) (st : rhSt) : rhBr := match st.2.1 with
  | (u, y) :: (t, x) :: S => cond (rh_ik t && (rh_ik u && decide (0 ≤ (pc : Int) + off))) (some (f x y, rh_oI t x ++ rh_oI u y, ((pc : Int) + off).toNat, pc + 3, st.1, S, st.2.2)) none
  | _ => none
def rh_bj1 (f : rhX → rhX) (off : Int) (pc : Nat) (st : rhSt) : rhBr := match st.2.1 with
  | (t, x) :: S => cond (rh_ik t && decide (0 ≤ (pc : Int) + off)) (some (f x, rh_oI t x, ((pc : Int) + off).toNat, pc + 3, st.1, S, st.2.2)) none
  | _ => none
def rh_bj3 (f : rhX → rhX → rhX) (off : Int) (pc : Nat) (st : rhSt) : rhBr := match st.2.1 with
  | (u, y) :: (t, x) :: S => cond (rh_jk t && (rh_jk u && decide (0 ≤ ((pc + 1 : Nat) : Int) + off))) (some (f x y, rh_oJ t x ++ rh_oJ u y, (((pc + 1 : Nat) : Int) + off).toNat, pc + 4, st.1, S, st.2.2)) none
  | _ => none
def rh_ie (x : rhX) : rhX := match x with
  | .pow (.sub c (.add (.num 1) (.num 0))) 1 => rh_neg c
  | x => .pow (.add x (.num 0)) 2
def rh_in2 (x : rhX) : rhX := match x with
  | .pow (.sub c (.add (.num 1) (.num 0))) 1 => c
  | x => .pow (.add x (.num 0)) 3
theorem rh_ie_d {e : rhEn} {x : rhX} : (rh_den e (rh_ie x)).2.2 ↔ (rh_den e x).1 = 0 := by
  unfold rh_ie
  split
  · rename_i c
    rw [rh_neg_d]
    show ¬ (rh_den e c).2.2 ↔ rh_if (rh_den e c).2.2 (1 : Int) 0 = 0
    by_cases h : (rh_den e c).2.2
    · rw [rh_if_t h]; simp [h]
    · rw [rh_if_f h]; simp [h]
  · exact Iff.rfl
theorem rh_in2_d {e : rhEn} {x : rhX} : (rh_den e (rh_in2 x)).2.2 ↔ (rh_den e x).1 ≠ 0 := by
  unfold rh_in2
  split
  · rename_i c
    show (rh_den e c).2.2 ↔ rh_if (rh_den e c).2.2 (1 : Int) 0 ≠ 0
    by_cases h : (rh_den e c).2.2
    · rw [rh_if_t h]; simp [h]
    · rw [rh_if_f h]; simp [h]
  · exact Iff.rfl
def rh_br (d d1 : rhDc) (pc : Nat) (st : rhSt) : rhBr := match d with
  | .ok (.if_icmp .eq off, 3) => rh_bj2 (fun x y => .pow (.add x y) 2) off pc st
  | .ok (.if_icmp .ne off, 3) => rh_bj2 (fun x y => .pow (.add x y) 3) off pc st
  | .ok (.if_icmp .lt off, 3) => rh_bj2 (fun x y => .pow (.add x y) 0) off pc st
  | .ok (.if_icmp .ge off, 3) => rh_bj2 (fun x y => .pow (.add y x) 1) off pc st
  | .ok (.if_icmp .gt off, 3) => rh_bj2 (fun x y => .pow (.add y x) 0) off pc st
  | .ok (.if_icmp .le off, 3) => rh_bj2 (fun x y => .pow (.add x y) 1) off pc st
  | .ok (.ifCond .eq off, 3) => rh_bj1 rh_ie off pc st
  | .ok (.ifCond .ne off, 3) => rh_bj1 rh_in2 off pc st
  | .ok (.ifCond .lt off, 3) => rh_bj1 (fun x => .pow (.add x (.num 0)) 0) off pc st
  | .ok (.ifCond .ge off, 3) => rh_bj1 (fun x => .pow (.add (.num 0) x) 1) off pc st
  | .ok (.ifCond .gt off, 3) => rh_bj1 (fun x => .pow (.add (.num 0) x) 0) off pc st
  | .ok (.ifCond .le off, 3) => rh_bj1 (fun x => .pow (.add x (.num 0)) 1) off pc st
  | .ok (.lcmp, 1) => (match d1 with
    | .ok (.ifCond .eq off, 3) => rh_bj3 (fun x y => .pow (.add x y) 2) off pc st
    | .ok (.ifCond .ne off, 3) => rh_bj3 (fun x y => .pow (.add x y) 3) off pc st
    | .ok (.ifCond .lt off, 3) => rh_bj3 (fun x y => .pow (.add x y) 0) off pc st
    | .ok (.ifCond .ge off, 3) => rh_bj3 (fun x y => .pow (.add y x) 1) off pc st
    | .ok (.ifCond .gt off, 3) => rh_bj3 (fun x y => .pow (.add y x) 0) off pc st
    | .ok (.ifCond .le off, 3) => rh_bj3 (fun x y => .pow (.add x y) 1) off pc st
    | _ => none)
  | _ => none
def rh_bok (w : rhW) (Y : rhY) (pc : Nat) (st : rhSt) (r : rhX × List rhX × Nat × Nat × rhSt) : Prop :=
  r.2.2.2.2.2.2.2.1 = st.2.2.2.1 ∧ ∀ (n : Nat) (Q : rhQ) (e : rhEn), rh_hold e r.2.1 → ((rh_den e r.1).2.2 → rh_at w Y n Q e r.2.2.1 r.2.2.2.2) → (¬ (rh_den e r.1).2.2 → rh_at w Y n Q e r.2.2.2.1 r.2.2.2.2) → rh_at w Y n Q e pc st
variable {w : rhW} {Y : rhY} {h lo hi : Nat} {pc : Nat} {st : rhSt}
theorem rh_bj2_ok {f : rhX → rhX → rhX} {off : Int} {r : rhX × List rhX × Nat × Nat × rhSt} (hr : rh_bj2 f off pc st = some r)
    (rule : ∀ (n : Nat) (Q : rhQ) (e : rhEn) (tgt : Nat) (t u : Nat) (x y : rhX) (L : rhL) (S : List rhA) (M : rhM), rh_ik t = true → rh_ik u = true → (t = 0 ∨ rI (rh_den e x).1) → (u = 0 ∨ rI (rh_den e y).1) → (pc : Int) + off = (tgt : Int) →
      ((rh_den e (f x y)).2.2 → rh_AT w Y n Q tgt L S M) → (¬ (rh_den e (f x y)).2.2 → rh_AT w Y n Q (pc + 3) L S M) → rh_AT w Y n Q pc L ((u, (rh_den e y).1) :: (t, (rh_den e x).1) :: S) M) : rh_bok w Y pc st r := by
  obtain ⟨L, S0, M, kb, nx⟩ := st
  unfold rh_bj2 at hr
  split at hr
  · rename_i u y t x S hS
    simp only at hS
    subst hS
    cases hb : rh_ik t && (rh_ik u && decide (0 ≤ (pc : Int) + off)) with
    | false => rw [hb] at hr; cases hr
    | true =>
      rw [hb] at hr
      simp only [Bool.and_eq_true, decide_eq_true_eq] at hb
      obtain rfl := Option.some.inj hr
      refine ⟨rfl, fun n Q e ho K1 K2 => ?_⟩
      obtain ⟨ho1, ho2⟩ := rh_hold_a ho
      exact rule n Q e _ t u x y _ _ _ hb.1 hb.2.1 (rh_oI_ok ho1) (rh_oI_ok ho2) (Int.toNat_of_nonneg hb.2.2).symm K1 K2
  · cases hr
theorem rh_bj1_ok {f : rhX → rhX} {off : Int} {r : rhX × List rhX × Nat × Nat × rhSt} (hr : rh_bj1 f off pc st = some r)
    (rule : ∀ (n : Nat) (Q : rhQ) (e : rhEn) (tgt : Nat) (t : Nat) (x : rhX) (L : rhL) (S : List rhA) (M : rhM), rh_ik t = true → (t = 0 ∨ rI (rh_den e x).1) → (pc : Int) + off = (tgt : Int) →
      ((rh_den e (f x)).2.2 → rh_AT w Y n Q tgt L S M) → (¬ (rh_den e (f x)).2.2 → rh_AT w Y n Q (pc + 3) L S M) → rh_AT w Y n Q pc L ((t, (rh_den e x).1) :: S) M) : rh_bok w Y pc st r := by
  obtain ⟨L, S0, M, kb, nx⟩ := st
  unfold rh_bj1 at hr
  split at hr
  · rename_i t x S hS
    simp only at hS
    subst hS
    cases hb : rh_ik t && decide (0 ≤ (pc : Int) + off) with
    | false => rw [hb] at hr; cases hr
    | true =>
      rw [hb] at hr
      simp only [Bool.and_eq_true, decide_eq_true_eq] at hb
      obtain rfl := Option.some.inj hr
      refine ⟨rfl, fun n Q e ho K1 K2 => ?_⟩
      exact rule n Q e _ t x _ _ _ hb.1 (rh_oI_ok ho) (Int.toNat_of_nonneg hb.2).symm K1 K2
  · cases hr
theorem rh_bj3_ok {f : rhX → rhX → rhX} {off : Int} {r : rhX × List rhX × Nat × Nat × rhSt} (hr : rh_bj3 f off pc st = some r)
    (rule : ∀ (n : Nat) (Q : rhQ) (e : rhEn) (tgt : Nat) (t u : Nat) (x y : rhX) (L : rhL) (S : List rhA) (M : rhM), rh_jk t = true → rh_jk u = true → (t = 1 ∨ rL (rh_den e x).1) → (u = 1 ∨ rL (rh_den e y).1) → ((pc + 1 : Nat) : Int) + off = (tgt : Int) →
      ((rh_den e (f x y)).2.2 → rh_AT w Y n Q tgt L S M) → (¬ (rh_den e (f x y)).2.2 → rh_AT w Y n Q (pc + 4) L S M) → rh_AT w Y n Q pc L ((u, (rh_den e y).1) :: (t, (rh_den e x).1) :: S) M) : rh_bok w Y pc st r := by
  obtain ⟨L, S0, M, kb, nx⟩ := st
  unfold rh_bj3 at hr
  split at hr
  · rename_i u y t x S hS
    simp only at hS
    subst hS
    cases hb : rh_jk t && (rh_jk u && decide (0 ≤ ((pc + 1 : Nat) : Int) + off)) with
    | false => rw [hb] at hr; cases hr
    | true =>
      rw [hb] at hr
      simp only [Bool.and_eq_true, decide_eq_true_eq] at hb
      obtain rfl := Option.some.inj hr
      refine ⟨rfl, fun n Q e ho K1 K2 => ?_⟩
      obtain ⟨ho1, ho2⟩ := rh_hold_a ho
      exact rule n Q e _ t u x y _ _ _ hb.1 hb.2.1 (rh_oJ_ok ho1) (rh_oJ_ok ho2) (Int.toNat_of_nonneg hb.2.2).symm K1 K2
  · cases hr
theorem rh_br_ok {r : rhX × List rhX × Nat × Nat × rhSt} (hr : rh_br (decode (ry_c Y) pc) (decode (ry_c Y) (pc + 1)) pc st = some r) : rh_bok w Y pc st r := by
  unfold rh_br at hr
  split at hr
  · rename_i off hd
    exact rh_bj2_ok hr (fun n Q e tgt t u x y L S M a b c d g K1 K2 => rh_ic_eq tgt (pc + 3) hd a b c d g rfl K1 K2)
  · rename_i off hd
    exact rh_bj2_ok hr (fun n Q e tgt t u x y L S M a b c d g K1 K2 => rh_ic_ne tgt (pc + 3) hd a b c d g rfl K1 K2)
  · rename_i off hd
    exact rh_bj2_ok hr (fun n Q e tgt t u x y L S M a b c d g K1 K2 => rh_ic_lt tgt (pc + 3) hd a b c d g rfl K1 K2)
  · rename_i off hd
    exact rh_bj2_ok hr (fun n Q e tgt t u x y L S M a b c d g K1 K2 => rh_ic_ge tgt (pc + 3) hd a b c d g rfl K1 K2)
  · rename_i off hd
    exact rh_bj2_ok hr (fun n Q e tgt t u x y L S M a b c d g K1 K2 => rh_ic_gt tgt (pc + 3) hd a b c d g rfl K1 K2)
  · rename_i off hd
    exact rh_bj2_ok hr (fun n Q e tgt t u x y L S M a b c d g K1 K2 => rh_ic_le tgt (pc + 3) hd a b c d g rfl K1 K2)
  · rename_i off hd
    exact rh_bj1_ok hr (fun n Q e tgt t x L S M a c g K1 K2 => rh_iz_eq tgt (pc + 3) hd a c g rfl (fun z => K1 (rh_ie_d.mpr z)) (fun z => K2 (fun y => z (rh_ie_d.mp y))))
  · rename_i off hd
    exact rh_bj1_ok hr (fun n Q e tgt t x L S M a c g K1 K2 => rh_iz_ne tgt (pc + 3) hd a c g rfl (fun z => K1 (rh_in2_d.mpr z)) (fun z => K2 (fun y => z (rh_in2_d.mp y))))
  · rename_i off hd
    exact rh_bj1_ok hr (fun n Q e tgt t x L S M a c g K1 K2 => rh_iz_lt tgt (pc + 3) hd a c g rfl K1 K2)
  · rename_i off hd
    exact rh_bj1_ok hr (fun n Q e tgt t x L S M a c g K1 K2 => rh_iz_ge tgt (pc + 3) hd a c g rfl K1 K2)
  · rename_i off hd
    exact rh_bj1_ok hr (fun n Q e tgt t x L S M a c g K1 K2 => rh_iz_gt tgt (pc + 3) hd a c g rfl K1 K2)
  · rename_i off hd
    exact rh_bj1_ok hr (fun n Q e tgt t x L S M a c g K1 K2 => rh_iz_le tgt (pc + 3) hd a c g rfl K1 K2)
  · rename_i hd0
    split at hr
    · rename_i off hd
      exact rh_bj3_ok hr (fun n Q e tgt t u x y L S M a b c d g K1 K2 => rh_lc_eq tgt (pc + 1) (pc + 4) hd0 hd a b c d rfl g rfl K1 K2)
    · rename_i off hd
      exact rh_bj3_ok hr (fun n Q e tgt t u x y L S M a b c d g K1 K2 => rh_lc_ne tgt (pc + 1) (pc + 4) hd0 hd a b c d rfl g rfl K1 K2)
    · rename_i off hd
      exact rh_bj3_ok hr (fun n Q e tgt t u x y L S M a b c d g K1 K2 => rh_lc_lt tgt (pc + 1) (pc + 4) hd0 hd a b c d rfl g rfl K1 K2)
    · rename_i off hd
      exact rh_bj3_ok hr (fun n Q e tgt t u x y L S M a b c d g K1 K2 => rh_lc_ge tgt (pc + 1) (pc + 4) hd0 hd a b c d rfl g rfl K1 K2)
    · rename_i off hd
      exact rh_bj3_ok hr (fun n Q e tgt t u x y L S M a b c d g K1 K2 => rh_lc_gt tgt (pc + 1) (pc + 4) hd0 hd a b c d rfl g rfl K1 K2)
    · rename_i off hd
      exact rh_bj3_ok hr (fun n Q e tgt t u x y L S M a b c d g K1 K2 => rh_lc_le tgt (pc + 1) (pc + 4) hd0 hd a b c d rfl g rfl K1 K2)
    · cases hr
  · cases hr
/-- what the executor knows of a method: its cells, locals, links; where regions end (with the locals that live there), tests (branch, true, false, join), names (value, memory) -/
abbrev rhLn : Type := List rhFl × List rhCl × List rhTl × List rhIl × rhDt
abbrev rhHn : Type := List (Nat × List Nat) × List (Nat × Nat × Nat × Nat) × List Nat × List Nat
abbrev rhCf : Type := (Nat × Nat) × rhY × rhLn × rhHn
def rh_lok (w : rhW) (Y : rhY) (h : Nat) (l : rhLn) : Prop := (∀ q ∈ l.1, rh_gl Y q) ∧ (∀ q ∈ l.2.1, rh_cl2 Y q) ∧ (∀ q ∈ l.2.2.1, rh_tl2 Y q) ∧ (∀ q ∈ l.2.2.2.1, rh_il w Y h q) ∧ rh_dok (ry_c Y) l.2.2.2.2
def rh_alt {α : Type} (a : Option α) (b : Unit → Option α) : Option α := match a with
  | some x => some x
  | none => b ()
theorem rh_alt_ok {α : Type} {a : Option α} {b : Unit → Option α} {x : α} (hx : rh_alt a b = some x) : a = some x ∨ b () = some x := by
  unfold rh_alt at hx
  split at hx
  · exact .inl hx
  · exact .inr hx
def rh_stp (lo hi nL : Nat) (l : rhLn) (d : rhDc) (pc : Nat) (st : rhSt) : rhR :=
  rh_alt (rh_g1 d pc st) fun _ => rh_alt (rh_g7 lo hi l.1 d pc st) fun _ => rh_alt (rh_g5 d pc st) fun _ => rh_alt (rh_g9 lo hi d pc st) fun _ => rh_alt (rh_g3 d pc st) fun _ => rh_alt (rh_g2 nL d pc st) fun _ =>
  rh_alt (rh_g6 d pc st) fun _ => rh_alt (rh_g8 lo hi l.1 d pc st) fun _ => rh_alt (rh_gC lo hi l.2.2.2.1 d pc st) fun _ => rh_alt (rh_g4 d pc st) fun _ => rh_alt (rh_g10 lo hi l.2.1 l.2.2.1 d pc st) fun _ => rh_gA lo hi d pc st
theorem rh_stp_ok {l : rhLn} {r : List rhX × Nat × rhSt} (hs : rh_sd lo hi w) (hl : rh_lok w Y h l) (hr : rh_stp lo hi (ry_L Y) l (decode (ry_c Y) pc) pc st = some r) (n : Nat) (Q : rhQ) : rh_sk2 w Y (n + h) Q pc st r := by
  unfold rh_stp at hr
  rcases rh_alt_ok hr with hr | hr
  · exact (rh_g1_ok hr).to2
  rcases rh_alt_ok hr with hr | hr
  · exact rh_g7_ok hs hl.1 hr
  rcases rh_alt_ok hr with hr | hr
  · exact (rh_g5_ok hr).to2
  rcases rh_alt_ok hr with hr | hr
  · exact rh_g9_ok hs hr
  rcases rh_alt_ok hr with hr | hr
  · exact (rh_g3_ok hr).to2
  rcases rh_alt_ok hr with hr | hr
  · exact (rh_g2_ok hr).to2
  rcases rh_alt_ok hr with hr | hr
  · exact (rh_g6_ok hr).to2
  rcases rh_alt_ok hr with hr | hr
  · exact rh_g8_ok hs hl.1 hr
  rcases rh_alt_ok hr with hr | hr
  · exact rh_gC_ok hs hl.2.2.2.1 hr
  rcases rh_alt_ok hr with hr | hr
  · exact (rh_g4_ok hr).to2
  rcases rh_alt_ok hr with hr | hr
  · exact rh_g10_ok hs hl.2.1 hl.2.2.1 hr
  · exact rh_gA_ok hs hr
/-- the table's word for the machine's -/
theorem rh_stp_dk {nL : Nat} {l : rhLn} {dt : rhDt} {r : List rhX × Nat × rhSt} (hd : rh_dok (ry_c Y) dt) (hr : rh_stp lo hi nL l (rh_dk dt pc) pc st = some r) : rh_stp lo hi nL l (decode (ry_c Y) pc) pc st = some r := by
  rcases hd pc with hq | hq
  · rw [hq] at hr; exact hr
  · rw [hq] at hr
    have hz : rh_stp lo hi nL l (.error (.truncated 0)) pc st = none := by
      simp [rh_stp, rh_alt, rh_g1, rh_g2, rh_g3, rh_g4, rh_g5, rh_g6, rh_g7, rh_g8, rh_g9, rh_g10, rh_gA, rh_gC]
    rw [hz] at hr
    cases hr
theorem rh_br_e {d d1 : rhDc} {e : DecodeError} {r : rhX × List rhX × Nat × Nat × rhSt} (hr : rh_br d (.error e) pc st = some r) : rh_br d d1 pc st = some r := by
  unfold rh_br at hr ⊢
  split at hr <;> first | exact hr | cases hr
theorem rh_br_dk {dt : rhDt} {r : rhX × List rhX × Nat × Nat × rhSt} (hd : rh_dok (ry_c Y) dt) (hr : rh_br (rh_dk dt pc) (rh_dk dt (pc + 1)) pc st = some r) : rh_br (decode (ry_c Y) pc) (decode (ry_c Y) (pc + 1)) pc st = some r := by
  rcases hd pc with hq | hq
  · rw [hq] at hr
    rcases hd (pc + 1) with hq | hq
    · rw [hq] at hr; exact hr
    · rw [hq] at hr; exact rh_br_e hr
  · rw [hq] at hr
    cases hr
/-- a tree of tests: what holds at the one end, what is owed, the state at both -/
def rh_grd (c : rhX) (l : List rhX) : List rhX := l.map fun o => .pow (.add c o) 6
theorem rh_grd_ok {e : rhEn} {c : rhX} {l : List rhX} (hh : rh_hold e (rh_grd c l)) (hc : (rh_den e c).2.2) : rh_hold e l := fun o ho => hh _ (List.mem_map.mpr ⟨o, ho, rfl⟩) hc
def rh_seL : rhLx → rhLx → Bool
  | [], [] => true
  | a :: l, b :: m => Nat.beq a.1 b.1 && (Nat.beq a.2.1 b.2.1 && (rh_xe a.2.2 b.2.2 && rh_seL l m))
  | _, _ => false
theorem rh_seL_eq : ∀ {l m : rhLx}, rh_seL l m = true → l = m
  | [], [], _ => rfl
  | [], _ :: _, hh => by cases hh
  | _ :: _, [], hh => by cases hh
  | a :: l, b :: m, hh => by
    simp only [rh_seL, Bool.and_eq_true] at hh
    obtain ⟨a1, a2, a3⟩ := a
    obtain ⟨b1, b2, b3⟩ := b
    obtain rfl := Nat.eq_of_beq_eq_true hh.1
    obtain rfl := Nat.eq_of_beq_eq_true hh.2.1
    obtain rfl := rh_xe_eq hh.2.2.1
    rw [rh_seL_eq hh.2.2.2]
def rh_seS : rhSx → rhSx → Bool
  | [], [] => true
  | a :: l, b :: m => Nat.beq a.1 b.1 && (rh_xe a.2 b.2 && rh_seS l m)
  | _, _ => false
theorem rh_seS_eq : ∀ {l m : rhSx}, rh_seS l m = true → l = m
  | [], [], _ => rfl
  | [], _ :: _, hh => by cases hh
  | _ :: _, [], hh => by cases hh
  | a :: l, b :: m, hh => by
    simp only [rh_seS, Bool.and_eq_true] at hh
    obtain ⟨a1, a3⟩ := a
    obtain ⟨b1, b3⟩ := b
    obtain rfl := Nat.eq_of_beq_eq_true hh.1
    obtain rfl := rh_xe_eq hh.2.1
    rw [rh_seS_eq hh.2.2]
abbrev rhTs : Type := Option (rhX × List rhX × rhSt)
def rh_tst (lo hi : Nat) (Y : rhY) (l : rhLn) (T F : Nat) : Nat → Nat → rhSt → rhTs
  | 0, _, _ => none
  | f + 1, pc, st => cond (Nat.beq pc T) (some (rh_T, [], st)) (cond (Nat.beq pc F) (some (rh_Fx, [], st)) (match rh_br (rh_dk l.2.2.2.2 pc) (rh_dk l.2.2.2.2 (pc + 1)) pc st with
    | some (c, o, tg, nx, s) => (match rh_tst lo hi Y l T F f tg s, rh_tst lo hi Y l T F f nx s with
      | some (c1, o1, s1), some (c2, o2, s2) => cond (rh_seL s1.1 s2.1 && (rh_seS s1.2.1 s2.2.1 && rh_xe s1.2.2.1 s2.2.2.1)) (some (rh_cb c c1 c2, o ++ (rh_grd c o1 ++ rh_grd (rh_neg c) o2), s1.1, s1.2.1, s1.2.2.1, s.2.2.2)) none
      | _, _ => none)
    | none => (match rh_stp lo hi (ry_L Y) l (rh_dk l.2.2.2.2 pc) pc st with
      | some (o, pc', s) => (match rh_tst lo hi Y l T F f pc' s with
        | some (c2, o2, s2) => some (c2, o ++ o2, s2)
        | none => none)
      | none => none)))
theorem rh_tst_ok {l : rhLn} {T F : Nat} (hs : rh_sd lo hi w) (hl : rh_lok w Y h l) : ∀ {f pc : Nat} {st : rhSt} {C : rhX} {o : List rhX} {s : rhSt}, rh_tst lo hi Y l T F f pc st = some (C, o, s) → ∀ e : rhEn, e.2.2 = w → rh_KB e st.2.2.2.1 → rh_hold e o →
    rh_KB e s.2.2.2.1 ∧ ∀ (n : Nat) (Q : rhQ), ((rh_den e C).2.2 → rh_at w Y (n + h) Q e T s) → (¬ (rh_den e C).2.2 → rh_at w Y (n + h) Q e F s) → rh_at w Y (n + h) Q e pc st
  | 0, _, _, _, _, _, hr => by cases hr
  | f + 1, pc, st, C, o, s, hr => by
    intro e hw hk ho
    unfold rh_tst at hr
    cases hT : Nat.beq pc T with
    | true =>
      rw [hT] at hr
      obtain rfl := Nat.eq_of_beq_eq_true hT
      cases hr
      exact ⟨hk, fun n Q K1 _ => K1 trivial⟩
    | false =>
      rw [hT] at hr
      simp only [cond_false] at hr
      cases hF : Nat.beq pc F with
      | true =>
        rw [hF] at hr
        obtain rfl := Nat.eq_of_beq_eq_true hF
        cases hr
        exact ⟨hk, fun n Q _ K2 => K2 (fun hz => hz trivial)⟩
      | false =>
        rw [hF] at hr
        simp only [cond_false] at hr
        split at hr
        · rename_i c ob tg nx s0 hb
          obtain ⟨hkb, hbr⟩ := rh_br_ok (w := w) (rh_br_dk hl.2.2.2.2 hb)
          split at hr
          · rename_i c1 o1 s1 c2 o2 s2 h1 h2
            cases he : rh_seL s1.1 s2.1 && (rh_seS s1.2.1 s2.2.1 && rh_xe s1.2.2.1 s2.2.2.1) with
            | false => rw [he] at hr; cases hr
            | true =>
              rw [he] at hr
              simp only [Bool.and_eq_true] at he
              obtain ⟨L1, S1, M1, k1⟩ := s1
              obtain ⟨L2, S2, M2, k2⟩ := s2
              obtain rfl := rh_seL_eq he.1
              obtain rfl := rh_seS_eq he.2.1
              obtain rfl := rh_xe_eq he.2.2
              cases hr
              obtain ⟨ho1, ho2⟩ := rh_hold_a ho
              obtain ⟨ho2, ho3⟩ := rh_hold_a ho2
              have hk0 : rh_KB e s0.2.2.2.1 := by
                have : s0.2.2.2.1 = st.2.2.2.1 := hkb
                rw [this]; exact hk
              refine ⟨hk0, fun n Q K1 K2 => ?_⟩
              refine hbr (n + h) Q e ho1 (fun hc => ?_) (fun hc => ?_)
              · refine (rh_tst_ok hs hl h1 e hw hk0 (rh_grd_ok ho2 hc)).2 n Q (fun hz => K1 (rh_cb_d.mpr (.inl ⟨hc, hz⟩))) (fun hz => K2 (fun hy => ?_))
                rcases rh_cb_d.mp hy with h5 | h5
                · exact hz h5.2
                · exact h5.1 hc
              · refine (rh_tst_ok hs hl h2 e hw hk0 (rh_grd_ok ho3 (rh_neg_d.mpr hc))).2 n Q (fun hz => K1 (rh_cb_d.mpr (.inr ⟨hc, hz⟩))) (fun hz => K2 (fun hy => ?_))
                rcases rh_cb_d.mp hy with h5 | h5
                · exact hc h5.1
                · exact hz h5.2
          · cases hr
        · split at hr
          · rename_i ob pc' s0 hst
            split at hr
            · rename_i c2 o2 s2 h2
              cases hr
              obtain ⟨ho1, ho2⟩ := rh_hold_a ho
              have hk2 := (rh_stp_ok hs hl (rh_stp_dk hl.2.2.2.2 hst) 0 (fun _ _ => True, fun _ => True) e hw hk ho1).1
              obtain ⟨a1, a2⟩ := rh_tst_ok hs hl h2 e hw hk2 ho2
              exact ⟨a1, fun n Q K1 K2 => (rh_stp_ok hs hl (rh_stp_dk hl.2.2.2.2 hst) n Q e hw hk ho1).2 (a2 n Q K1 K2)⟩
            · cases hr
          · cases hr
end RhExec
