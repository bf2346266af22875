/-! ===== one step of the symbolic executor: stores, constants, arithmetic ===== -/
section RhStep2
variable {w : rhW} {Y : rhY} {n : Nat} {Q : rhQ} {pc : Nat} {st : rhSt} {r : List rhX × Nat × rhSt}
abbrev rh_AT (w : rhW) (Y : rhY) (n : Nat) (Q : rhQ) (pc : Nat) (L : rhL) (S : List rhA) (M : rhM) : Prop := rh_At w Y n (0, 0, 0, 0) (rh_Zq w Y Q) pc L S M
/-- stores -/
def rh_stI (nL pc' i : Nat) (st : rhSt) : rhR := match st.2.1 with
  | (t, x) :: S => cond (Nat.blt i nL && rh_ik t) (some (rh_oI t x, pc', rh_x1 st.1 i (0, x), S, st.2.2)) none
  | _ => none
def rh_stJ (nL pc' i : Nat) (st : rhSt) : rhR := match st.2.1 with
  | (t, x) :: S => cond (Nat.blt (i + 1) nL && rh_jk t) (some (rh_oJ t x, pc', rh_x2 st.1 i (1, x), S, st.2.2)) none
  | _ => none
def rh_stA (nL pc' i : Nat) (st : rhSt) : rhR := match st.2.1 with
  | (t, x) :: S => cond (Nat.blt i nL && rh_rk t) (some ([], pc', rh_x1 st.1 i (t, x), S, st.2.2)) none
  | _ => none
def rh_inC (nL pc' i : Nat) (c0 : Int) (st : rhSt) : rhR := match rh_fl1 st.1 i with
  | some (0, x) => cond (Nat.blt i nL) (some ([.pow (.neg (.add x (.num c0))) 1], pc', rh_x1 st.1 i (0, .add x (.num c0)), st.2)) none
  | _ => none
theorem rh_blt {a b : Nat} (h : Nat.blt a b = true) : a < b := by
  simp [Nat.blt] at h
  omega
theorem rh_stI_ok {pc' i : Nat} (h : rh_stI (ry_L Y) pc' i st = some r) (rule : ∀ (L' : rhL) (S : List rhA) (M : rhM) (t : Nat) (x : Int) (L : rhL) (ks : List Nat), i < ry_L Y → rh_ik t = true → (t = 0 ∨ rI x) → rh_pk (rh_s1 L i (0, x)) ks = L' → rh_AT w Y n Q pc' L' S M → rh_AT w Y n Q pc L ((t, x) :: S) M) : rh_sok w Y n Q pc st r := by
  obtain ⟨L, S0, M⟩ := st
  unfold rh_stI at h
  split at h
  · rename_i t x S hs
    simp only at hs
    subst hs
    cases hc : Nat.blt i (ry_L Y) && rh_ik t with
    | false => rw [hc] at h; cases h
    | true =>
      rw [hc] at h
      simp only [Bool.and_eq_true] at hc
      obtain rfl := Option.some.inj h
      refine ⟨rfl, fun e ho K => ?_⟩
      refine rule _ _ _ _ _ _ (List.range (rh_s1 (rh_sL e L) i (0, (rh_den e x).1)).length) (rh_blt hc.1) hc.2 (rh_oI_ok ho) (rh_pk_all _) ?_
      have := rh_x1_s e L i 0 x
      rw [← this]
      exact K
  · cases h
theorem rh_stJ_ok {pc' i : Nat} (h : rh_stJ (ry_L Y) pc' i st = some r) (rule : ∀ (L' : rhL) (S : List rhA) (M : rhM) (t : Nat) (x : Int) (L : rhL) (ks : List Nat), i + 1 < ry_L Y → rh_jk t = true → (t = 1 ∨ rL x) → rh_pk (rh_s2 L i (1, x)) ks = L' → rh_AT w Y n Q pc' L' S M → rh_AT w Y n Q pc L ((t, x) :: S) M) : rh_sok w Y n Q pc st r := by
  obtain ⟨L, S0, M⟩ := st
  unfold rh_stJ at h
  split at h
  · rename_i t x S hs
    simp only at hs
    subst hs
    cases hc : Nat.blt (i + 1) (ry_L Y) && rh_jk t with
    | false => rw [hc] at h; cases h
    | true =>
      rw [hc] at h
      simp only [Bool.and_eq_true] at hc
      obtain rfl := Option.some.inj h
      refine ⟨rfl, fun e ho K => ?_⟩
      refine rule _ _ _ _ _ _ (List.range (rh_s2 (rh_sL e L) i (1, (rh_den e x).1)).length) (rh_blt hc.1) hc.2 (rh_oJ_ok ho) (rh_pk_all _) ?_
      have := rh_x2_s e L i 1 x
      rw [← this]
      exact K
  · cases h
theorem rh_stA_ok {pc' i : Nat} (h : rh_stA (ry_L Y) pc' i st = some r) (rule : ∀ (L' : rhL) (S : List rhA) (M : rhM) (t : Nat) (x : Int) (L : rhL) (ks : List Nat), i < ry_L Y → rh_rk t = true → rh_pk (rh_s1 L i (t, x)) ks = L' → rh_AT w Y n Q pc' L' S M → rh_AT w Y n Q pc L ((t, x) :: S) M) : rh_sok w Y n Q pc st r := by
  obtain ⟨L, S0, M⟩ := st
  unfold rh_stA at h
  split at h
  · rename_i t x S hs
    simp only at hs
    subst hs
    cases hc : Nat.blt i (ry_L Y) && rh_rk t with
    | false => rw [hc] at h; cases h
    | true =>
      rw [hc] at h
      simp only [Bool.and_eq_true] at hc
      obtain rfl := Option.some.inj h
      refine ⟨rfl, fun e ho K => ?_⟩
      refine rule _ _ _ _ _ _ (List.range (rh_s1 (rh_sL e L) i (t, (rh_den e x).1)).length) (rh_blt hc.1) hc.2 (rh_pk_all _) ?_
      have := rh_x1_s e L i t x
      rw [← this]
      exact K
  · cases h
def rh_g2 (nL : Nat) (d : rhDc) (pc : Nat) (st : rhSt) : rhR := match d with
  | .ok (.istore_n q, 1) => rh_stI nL (pc + 1) q st
  | .ok (.istore i, 2) => rh_stI nL (pc + 2) i st
  | .ok (.lstore_n q, 1) => rh_stJ nL (pc + 1) q st
  | .ok (.lstore i, 2) => rh_stJ nL (pc + 2) i st
  | .ok (.astore_n q, 1) => rh_stA nL (pc + 1) q st
  | .ok (.astore i, 2) => rh_stA nL (pc + 2) i st
  | .ok (.iinc i c0, 3) => rh_inC nL (pc + 3) i c0 st
  | _ => none
theorem rh_g2_ok (h : rh_g2 (ry_L Y) (decode (ry_c Y) pc) pc st = some r) : rh_sok w Y n Q pc st r := by
  unfold rh_g2 at h
  split at h
  · rename_i q hd
    exact rh_stI_ok h (fun L' S M t x L ks a b c d K => rh_ist_n (pc + 1) ks hd rfl a b c d rfl K)
  · rename_i q hd
    exact rh_stI_ok h (fun L' S M t x L ks a b c d K => rh_ist (pc + 2) ks hd a b c d rfl K)
  · rename_i q hd
    exact rh_stJ_ok h (fun L' S M t x L ks a b c d K => rh_lst_n (pc + 1) ks hd rfl a b c d rfl K)
  · rename_i q hd
    exact rh_stJ_ok h (fun L' S M t x L ks a b c d K => rh_lst (pc + 2) ks hd a b c d rfl K)
  · rename_i q hd
    exact rh_stA_ok h (fun L' S M t x L ks a b c K => rh_ast_n (pc + 1) ks hd rfl a b c rfl K)
  · rename_i q hd
    exact rh_stA_ok h (fun L' S M t x L ks a b c K => rh_ast (pc + 2) ks hd a b c rfl K)
  · rename_i i c0 hd
    obtain ⟨L, st2⟩ := st
    unfold rh_inC at h
    split at h
    · rename_i x hl
      cases hc : Nat.blt i (ry_L Y) with
      | false => rw [hc] at h; cases h
      | true =>
        rw [hc] at h
        obtain rfl := Option.some.inj h
        refine ⟨rfl, fun e ho K => ?_⟩
        obtain ⟨j, hj⟩ := rh_fl1_j (e := e) hl
        refine rh_inc (pc + 3) (List.range (rh_s1 (rh_sL e L) i (0, (rh_den e x).1 + c0)).length) hd hj (rh_blt hc) (rh_hold_c ho).1 (rh_pk_all _) rfl ?_
        have := rh_x1_s e L i 0 (.add x (.num c0))
        exact (show rh_sL e (rh_x1 L i (0, .add x (.num c0))) = _ from this) ▸ K
    · cases h
  · cases h
/-- two operands -/
def rh_bin (ct cu : Nat → Bool) (tag : Nat) (ob : Nat → rhX → Nat → rhX → List rhX) (f : rhX → rhX → rhX) (pc' : Nat) (st : rhSt) : rhR := match st.2.1 with
  | (u, y) :: (t, x) :: S => cond (ct t && cu u) (some (ob t x u y, pc', st.1, (tag, f x y) :: S, st.2.2)) none
  | _ => none
theorem rh_bin_ok {ct cu : Nat → Bool} {tag : Nat} {ob : Nat → rhX → Nat → rhX → List rhX} {f : rhX → rhX → rhX} {pc' : Nat} (h : rh_bin ct cu tag ob f pc' st = some r)
    (rule : ∀ (e : rhEn) (L : rhL) (S : List rhA) (M : rhM) (t u : Nat) (x y : rhX), ct t = true → cu u = true → rh_hold e (ob t x u y) → rh_AT w Y n Q pc' L ((tag, (rh_den e (f x y)).1) :: S) M → rh_AT w Y n Q pc L ((u, (rh_den e y).1) :: (t, (rh_den e x).1) :: S) M) : rh_sok w Y n Q pc st r := by
  obtain ⟨L, S0, M⟩ := st
  unfold rh_bin at h
  split at h
  · rename_i u y t x S hs
    simp only at hs
    subst hs
    cases hc : ct t && cu u with
    | false => rw [hc] at h; cases h
    | true =>
      rw [hc] at h
      simp only [Bool.and_eq_true] at hc
      obtain rfl := Option.some.inj h
      exact ⟨rfl, fun e ho K => rule e _ _ _ _ _ _ _ hc.1 hc.2 ho K⟩
  · cases h
/-- one operand -/
def rh_una (ct : Nat → Bool) (tag : Nat) (ob : Nat → rhX → List rhX) (f : rhX → rhX) (pc' : Nat) (st : rhSt) : rhR := match st.2.1 with
  | (t, x) :: S => cond (ct t) (some (ob t x, pc', st.1, (tag, f x) :: S, st.2.2)) none
  | _ => none
theorem rh_una_ok {ct : Nat → Bool} {tag : Nat} {ob : Nat → rhX → List rhX} {f : rhX → rhX} {pc' : Nat} (h : rh_una ct tag ob f pc' st = some r)
    (rule : ∀ (e : rhEn) (L : rhL) (S : List rhA) (M : rhM) (t : Nat) (x : rhX), ct t = true → rh_hold e (ob t x) → rh_AT w Y n Q pc' L ((tag, (rh_den e (f x)).1) :: S) M → rh_AT w Y n Q pc L ((t, (rh_den e x).1) :: S) M) : rh_sok w Y n Q pc st r := by
  obtain ⟨L, S0, M⟩ := st
  unfold rh_una at h
  split at h
  · rename_i t x S hs
    simp only at hs
    subst hs
    cases hc : ct t with
    | false => rw [hc] at h; cases h
    | true =>
      rw [hc] at h
      obtain rfl := Option.some.inj h
      exact ⟨rfl, fun e ho K => rule e _ _ _ _ _ hc ho K⟩
  · cases h
abbrev rh_ob0 : Nat → rhX → Nat → rhX → List rhX := fun _ _ _ _ => []
abbrev rh_obD : Nat → rhX → Nat → rhX → List rhX := fun t x u y => rh_oI t x ++ (rh_oI u y ++ [.pow (.add (.pow (.add (.num 0) x) 1) (.pow (.add (.num 0) y) 0)) 4])
abbrev rh_obE : Nat → rhX → Nat → rhX → List rhX := fun t x u y => rh_oJ t x ++ (rh_oJ u y ++ [.pow (.add (.pow (.add (.num 0) x) 1) (.pow (.add (.num 0) y) 0)) 4])
def rh_g3 (d : rhDc) (pc : Nat) (st : rhSt) : rhR := match d with
  | .ok (.iadd, 1) => rh_bin rh_ik rh_ik 3 rh_ob0 (fun x y => Lean.Grind.CommRing.Expr.add x y) (pc + 1) st
  | .ok (.isub, 1) => rh_bin rh_ik rh_ik 3 rh_ob0 (fun x y => Lean.Grind.CommRing.Expr.sub x y) (pc + 1) st
  | .ok (.imul, 1) => rh_bin rh_ik rh_ik 3 rh_ob0 (fun x y => Lean.Grind.CommRing.Expr.mul x y) (pc + 1) st
  | .ok (.ladd, 1) => rh_bin rh_jk rh_jk 4 rh_ob0 (fun x y => Lean.Grind.CommRing.Expr.add x y) (pc + 1) st
  | .ok (.lsub, 1) => rh_bin rh_jk rh_jk 4 rh_ob0 (fun x y => Lean.Grind.CommRing.Expr.sub x y) (pc + 1) st
  | .ok (.lmul, 1) => rh_bin rh_jk rh_jk 4 rh_ob0 (fun x y => Lean.Grind.CommRing.Expr.mul x y) (pc + 1) st
  | .ok (.idiv, 1) => rh_bin rh_ik rh_ik 0 rh_obD (fun x y => .pow (.add x y) 7) (pc + 1) st
  | .ok (.irem, 1) => rh_bin rh_ik rh_ik 0 rh_obD (fun x y => .pow (.add x y) 8) (pc + 1) st
  | .ok (.ldiv, 1) => rh_bin rh_jk rh_jk 1 rh_obE (fun x y => .pow (.add x y) 7) (pc + 1) st
  | .ok (.lrem, 1) => rh_bin rh_jk rh_jk 1 rh_obE (fun x y => .pow (.add x y) 8) (pc + 1) st
  | _ => none
theorem rh_g3_ok (h : rh_g3 (decode (ry_c Y) pc) pc st = some r) : rh_sok w Y n Q pc st r := by
  unfold rh_g3 at h
  split at h
  · rename_i hd
    exact rh_bin_ok h (fun e L S M t u x y a b c K => rh_iadd (pc + 1) hd a b rfl K)
  · rename_i hd
    exact rh_bin_ok h (fun e L S M t u x y a b c K => rh_isub (pc + 1) hd a b rfl K)
  · rename_i hd
    exact rh_bin_ok h (fun e L S M t u x y a b c K => rh_imul (pc + 1) hd a b rfl K)
  · rename_i hd
    exact rh_bin_ok h (fun e L S M t u x y a b c K => rh_ladd (pc + 1) hd a b rfl K)
  · rename_i hd
    exact rh_bin_ok h (fun e L S M t u x y a b c K => rh_lsub (pc + 1) hd a b rfl K)
  · rename_i hd
    exact rh_bin_ok h (fun e L S M t u x y a b c K => rh_lmul (pc + 1) hd a b rfl K)
  · rename_i hd
    exact rh_bin_ok h (fun e L S M t u x y a b c K => by
      have c1 := rh_hold_a c
      have c2 := rh_hold_a c1.2
      have c3 := (rh_hold_c c2.2).1
      exact rh_idiv_ (pc + 1) hd a b (rh_oI_ok c1.1) (rh_oI_ok c2.1) c3.1 c3.2 rfl K)
  · rename_i hd
    exact rh_bin_ok h (fun e L S M t u x y a b c K => by
      have c1 := rh_hold_a c
      have c2 := rh_hold_a c1.2
      have c3 := (rh_hold_c c2.2).1
      exact rh_irem_ (pc + 1) hd a b (rh_oI_ok c1.1) (rh_oI_ok c2.1) c3.1 c3.2 rfl K)
  · rename_i hd
    exact rh_bin_ok h (fun e L S M t u x y a b c K => by
      have c1 := rh_hold_a c
      have c2 := rh_hold_a c1.2
      have c3 := (rh_hold_c c2.2).1
      exact rh_ldiv_ (pc + 1) hd a b (rh_oJ_ok c1.1) (rh_oJ_ok c2.1) c3.1 c3.2 rfl K)
  · rename_i hd
    exact rh_bin_ok h (fun e L S M t u x y a b c K => by
      have c1 := rh_hold_a c
      have c2 := rh_hold_a c1.2
      have c3 := (rh_hold_c c2.2).1
      exact rh_lrem_ (pc + 1) hd a b (rh_oJ_ok c1.1) (rh_oJ_ok c2.1) c3.1 c3.2 rfl K)
  · cases h
def rh_g4 (d : rhDc) (pc : Nat) (st : rhSt) : rhR := match d with
  | .ok (.iand, 1) => rh_bin rh_ik rh_ik 0 rh_ob0 (fun x y => .pow (.add x y) 9) (pc + 1) st
  | .ok (.ior, 1) => rh_bin rh_ik rh_ik 0 rh_ob0 (fun x y => .pow (.add x y) 10) (pc + 1) st
  | .ok (.ixor, 1) => rh_bin rh_ik rh_ik 0 rh_ob0 (fun x y => .pow (.add x y) 11) (pc + 1) st
  | .ok (.ishl, 1) => rh_bin rh_ik rh_ik 0 rh_ob0 (fun x y => .pow (.add x y) 12) (pc + 1) st
  | .ok (.ishr, 1) => rh_bin rh_ik rh_ik 0 rh_ob0 (fun x y => .pow (.add x y) 13) (pc + 1) st
  | .ok (.land, 1) => rh_bin rh_jk rh_jk 1 rh_ob0 (fun x y => .pow (.add x y) 14) (pc + 1) st
  | .ok (.lor, 1) => rh_bin rh_jk rh_jk 1 rh_ob0 (fun x y => .pow (.add x y) 15) (pc + 1) st
  | .ok (.lxor, 1) => rh_bin rh_jk rh_jk 1 rh_ob0 (fun x y => .pow (.add x y) 16) (pc + 1) st
  | .ok (.lshl, 1) => rh_bin rh_jk rh_ik 1 rh_ob0 (fun x y => .pow (.add x y) 17) (pc + 1) st
  | .ok (.lshr, 1) => rh_bin rh_jk rh_ik 1 rh_ob0 (fun x y => .pow (.add x y) 18) (pc + 1) st
  | .ok (.lushr, 1) => rh_bin rh_jk rh_ik 1 rh_ob0 (fun x y => .pow (.add x y) 19) (pc + 1) st
  | _ => none
theorem rh_g4_ok (h : rh_g4 (decode (ry_c Y) pc) pc st = some r) : rh_sok w Y n Q pc st r := by
  unfold rh_g4 at h
  split at h
  · rename_i hd
    exact rh_bin_ok h (fun e L S M t u x y a b c K => rh_iand_ (pc + 1) hd a b rfl K)
  · rename_i hd
    exact rh_bin_ok h (fun e L S M t u x y a b c K => rh_ior_ (pc + 1) hd a b rfl K)
  · rename_i hd
    exact rh_bin_ok h (fun e L S M t u x y a b c K => rh_ixor_ (pc + 1) hd a b rfl K)
  · rename_i hd
    exact rh_bin_ok h (fun e L S M t u x y a b c K => rh_ishl_ (pc + 1) hd a b rfl K)
  · rename_i hd
    exact rh_bin_ok h (fun e L S M t u x y a b c K => rh_ishr_ (pc + 1) hd a b rfl K)
  · rename_i hd
    exact rh_bin_ok h (fun e L S M t u x y a b c K => rh_land_ (pc + 1) hd a b rfl K)
  · rename_i hd
    exact rh_bin_ok h (fun e L S M t u x y a b c K => rh_lor_ (pc + 1) hd a b rfl K)
  · rename_i hd
    exact rh_bin_ok h (fun e L S M t u x y a b c K => rh_lxor_ (pc + 1) hd a b rfl K)
  · rename_i hd
    exact rh_bin_ok h (fun e L S M t u x y a b c K => rh_lshl_ (pc + 1) hd a b rfl K)
  · rename_i hd
    exact rh_bin_ok h (fun e L S M t u x y a b c K => rh_lshr_ (pc + 1) hd a b rfl K)
  · rename_i hd
    exact rh_bin_ok h (fun e L S M t u x y a b c K => rh_lushr_ (pc + 1) hd a b rfl K)
  · cases h
def rh_pu (ob : List rhX) (a : Nat × rhX) (pc' : Nat) (st : rhSt) : rhR := some (ob, pc', st.1, a :: st.2.1, st.2.2)
/-- conversions, constants, the stack, goto -/
def rh_rI (v : Int) : Bool := decide (-2147483648 ≤ v) && decide (v ≤ 2147483647)
theorem rh_rI_ok {v : Int} (h : rh_rI v = true) : rI v := by
  simp [rh_rI] at h
  exact h
def rh_g5 (d : rhDc) (pc : Nat) (st : rhSt) : rhR := match d with
  | .ok (.ineg, 1) => rh_una rh_ik 3 (fun _ _ => []) (fun x => .neg x) (pc + 1) st
  | .ok (.i2l, 1) => rh_una rh_ik 1 (fun t x => rh_oI t x) (fun x => x) (pc + 1) st
  | .ok (.l2i, 1) => rh_una rh_jk 0 (fun _ x => [.pow (.neg x) 1]) (fun x => x) (pc + 1) st
  | .ok (.i2b, 1) => rh_una rh_ik 0 (fun _ _ => []) (fun x => .pow (.neg x) 5) (pc + 1) st
  | .ok (.iconst v, 1) => cond (rh_rI v) (rh_pu [] (0, .num v) (pc + 1) st) none
  | .ok (.bipush v, 2) => cond (rh_rI v && decide ((Int8.ofInt v).toInt32 = rhI v)) (rh_pu [] (0, .num v) (pc + 2) st) none
  | .ok (.sipush v, 3) => cond (rh_rI v && decide ((Int16.ofInt v).toInt32 = rhI v)) (rh_pu [] (0, .num v) (pc + 3) st) none
  | .ok (.lconst v, 1) => rh_pu [] (1, .num ((v : Nat) : Int)) (pc + 1) st
  | _ => none
theorem rh_g5_ok (h : rh_g5 (decode (ry_c Y) pc) pc st = some r) : rh_sok w Y n Q pc st r := by
  unfold rh_g5 at h
  split at h
  · rename_i hd
    exact rh_una_ok h (fun e L S M t x a c K => rh_ineg (pc + 1) hd a rfl K)
  · rename_i hd
    exact rh_una_ok h (fun e L S M t x a c K => rh_i2l (pc + 1) hd a (rh_oI_ok c) rfl K)
  · rename_i hd
    exact rh_una_ok h (fun e L S M t x a c K => rh_l2i (pc + 1) hd a (rh_hold_c c).1 rfl K)
  · rename_i hd
    exact rh_una_ok h (fun e L S M t x a c K => rh_i2b_ (pc + 1) hd a rfl K)
  · rename_i v hd
    cases hc : rh_rI v with
    | false => rw [hc] at h; cases h
    | true =>
      rw [hc] at h
      obtain rfl := Option.some.inj h
      exact ⟨rfl, fun e ho K => rh_ico (pc + 1) hd (rh_rI_ok hc) rfl K⟩
  · rename_i v hd
    cases hc : rh_rI v && decide ((Int8.ofInt v).toInt32 = rhI v) with
    | false => rw [hc] at h; cases h
    | true =>
      rw [hc] at h
      simp only [Bool.and_eq_true, decide_eq_true_eq] at hc
      obtain rfl := Option.some.inj h
      exact ⟨rfl, fun e ho K => rh_bip (pc + 2) hd hc.2 (rh_rI_ok hc.1) rfl K⟩
  · rename_i v hd
    cases hc : rh_rI v && decide ((Int16.ofInt v).toInt32 = rhI v) with
    | false => rw [hc] at h; cases h
    | true =>
      rw [hc] at h
      simp only [Bool.and_eq_true, decide_eq_true_eq] at hc
      obtain rfl := Option.some.inj h
      exact ⟨rfl, fun e ho K => rh_sip (pc + 3) hd hc.2 (rh_rI_ok hc.1) rfl K⟩
  · rename_i v hd
    obtain rfl := Option.some.inj h
    refine ⟨rfl, fun e ho K => rh_lco (pc + 1) hd ?_ ?_ rfl K⟩
    · match v with
      | 0 => rfl
      | 1 => rfl
    · match v with
      | 0 => exact (show rL 0 from ⟨by decide, by decide⟩)
      | 1 => exact (show rL 1 from ⟨by decide, by decide⟩)
  · cases h
def rh_g6 (d : rhDc) (pc : Nat) (st : rhSt) : rhR := match d with
  | .ok (.dup, 1) => (match st.2.1 with
    | a :: S => cond (!rh_jk a.1) (some ([], pc + 1, st.1, a :: a :: S, st.2.2)) none
    | _ => none)
  | .ok (.pop, 1) => (match st.2.1 with
    | a :: S => cond (!rh_jk a.1) (some ([], pc + 1, st.1, S, st.2.2)) none
    | _ => none)
  | .ok (.pop2, 1) => (match st.2.1 with
    | a :: S => cond (rh_jk a.1) (some ([], pc + 1, st.1, S, st.2.2)) none
    | _ => none)
  | .ok (.dup2, 1) => (match st.2.1 with
    | a :: b :: S => cond (!rh_jk a.1 && !rh_jk b.1) (some ([], pc + 1, st.1, a :: b :: a :: b :: S, st.2.2)) none
    | _ => none)
  | .ok (.dup_x1, 1) => (match st.2.1 with
    | a :: b :: S => cond (!rh_jk a.1 && !rh_jk b.1) (some ([], pc + 1, st.1, a :: b :: a :: S, st.2.2)) none
    | _ => none)
  | .ok (.goto off, 3) => cond (decide (0 ≤ (pc : Int) + off)) (some ([], ((pc : Int) + off).toNat, st)) none
  | _ => none
theorem rh_g6_ok (h : rh_g6 (decode (ry_c Y) pc) pc st = some r) : rh_sok w Y n Q pc st r := by
  obtain ⟨L, S0, M⟩ := st
  unfold rh_g6 at h
  split at h
  · rename_i hd
    split at h
    · rename_i a S hs
      simp only at hs
      subst hs
      cases hc : !rh_jk a.1 with
      | false => rw [hc] at h; cases h
      | true =>
        rw [hc] at h
        simp only [Bool.not_eq_true'] at hc
        obtain rfl := Option.some.inj h
        exact ⟨rfl, fun e ho K => rh_dup (pc + 1) hd hc rfl K⟩
    · cases h
  · rename_i hd
    split at h
    · rename_i a S hs
      simp only at hs
      subst hs
      cases hc : !rh_jk a.1 with
      | false => rw [hc] at h; cases h
      | true =>
        rw [hc] at h
        simp only [Bool.not_eq_true'] at hc
        obtain rfl := Option.some.inj h
        exact ⟨rfl, fun e ho K => rh_pop (pc + 1) hd hc rfl K⟩
    · cases h
  · rename_i hd
    split at h
    · rename_i a S hs
      simp only at hs
      subst hs
      cases hc : rh_jk a.1 with
      | false => rw [hc] at h; cases h
      | true =>
        rw [hc] at h
        obtain rfl := Option.some.inj h
        exact ⟨rfl, fun e ho K => rh_pop2 (pc + 1) hd hc rfl K⟩
    · cases h
  · rename_i hd
    split at h
    · rename_i a b S hs
      simp only at hs
      subst hs
      cases hc : !rh_jk a.1 && !rh_jk b.1 with
      | false => rw [hc] at h; cases h
      | true =>
        rw [hc] at h
        simp only [Bool.and_eq_true, Bool.not_eq_true'] at hc
        obtain rfl := Option.some.inj h
        exact ⟨rfl, fun e ho K => rh_dup2 (pc + 1) hd hc.1 hc.2 rfl K⟩
    · cases h
  · rename_i hd
    split at h
    · rename_i a b S hs
      simp only at hs
      subst hs
      cases hc : !rh_jk a.1 && !rh_jk b.1 with
      | false => rw [hc] at h; cases h
      | true =>
        rw [hc] at h
        simp only [Bool.and_eq_true, Bool.not_eq_true'] at hc
        obtain rfl := Option.some.inj h
        exact ⟨rfl, fun e ho K => rh_dup_x1 (pc + 1) hd hc.1 hc.2 rfl K⟩
    · cases h
  · rename_i off hd
    cases hc : decide (0 ≤ (pc : Int) + off) with
    | false => rw [hc] at h; cases h
    | true =>
      rw [hc] at h
      have hc2 := of_decide_eq_true hc
      obtain rfl := Option.some.inj h
      exact ⟨rfl, fun e ho K => rh_goto (((pc : Int) + off).toNat) hd (by omega) K⟩
  · cases h
end RhStep2
