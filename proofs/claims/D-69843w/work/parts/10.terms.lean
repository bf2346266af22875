/-! ===== terms for a symbolic executor ===== -/
section RhTerm
abbrev rhX : Type := Lean.Grind.CommRing.Expr
/-- an environment: numbers, memories, the world -/
abbrev rhEn : Type := List (Nat × Int) × List (Nat × rhM) × rhW
def rh_vi : List (Nat × Int) → Nat → Int
  | [], _ => 0
  | q :: l, i => cond (Nat.beq q.1 i) q.2 (rh_vi l i)
def rh_vm : List (Nat × rhM) → Nat → rhM
  | [], _ => fun _ _ => 0
  | q :: l, i => cond (Nat.beq q.1 i) q.2 (rh_vm l i)
noncomputable def rh_if {α : Type} (P : Prop) (a b : α) : α := @ite α P (Classical.propDecidable P) a b
theorem rh_if_t {α : Type} {P : Prop} {a b : α} (h : P) : rh_if P a b = a := by simp [rh_if, h]
theorem rh_if_f {α : Type} {P : Prop} {a b : α} (h : ¬ P) : rh_if P a b = b := by simp [rh_if, h]
/-- a number of a static table; of a text's bytes -/
def rh_tb (k : Nat) (i : Int) : Int := (match rh_sa[k]? with | some q => q.2.2 | none => []).getD i.toNat 0
def rh_tx (k : Nat) (i : Int) : Int := (match rh_st[k]? with | some q => q.2.2.2 | none => []).getD i.toNat 0
abbrev rhD : Type := Int × rhM × Prop
abbrev rh_d0 : rhD := (0, fun _ _ => 0, False)
abbrev rh_dI (x : Int) : rhD := (x, fun _ _ => 0, False)
abbrev rh_dM (x : rhM) : rhD := (0, x, False)
abbrev rh_dP (x : Prop) : rhD := (0, fun _ _ => 0, x)
/-- of one: 0 not, 1 rI, 2 rL, 3 a byte's, 4 a boolean's, 5 i2b, from 100 static tables, from 200 texts -/
def rh_o1 (k : Nat) (a : rhD) : rhD := match k with
  | 0 => rh_dP (¬ a.2.2)
  | 1 => rh_dP (rI a.1)
  | 2 => rh_dP (rL a.1)
  | 3 => rh_dP (-128 ≤ a.1 ∧ a.1 ≤ 127)
  | 4 => rh_dP (0 ≤ a.1 ∧ a.1 ≤ 1)
  | 5 => rh_dI (rh_i2b a.1)
  | k => cond (Nat.blt k 200) (rh_dI (rh_tb (k - 100) a.1)) (rh_dI (rh_tx (k - 200) a.1))
/-- of two: 0 lt, 1 le, 2 eq, 3 ne, 4 and, 5 or, 6 imp, then numbers; from 30: a block -/
def rh_o2 (w : rhW) (k : Nat) (a b : rhD) : rhD := match k with
  | 0 => rh_dP (a.1 < b.1)
  | 1 => rh_dP (a.1 ≤ b.1)
  | 2 => rh_dP (a.1 = b.1)
  | 3 => rh_dP (a.1 ≠ b.1)
  | 4 => rh_dP (a.2.2 ∧ b.2.2)
  | 5 => rh_dP (a.2.2 ∨ b.2.2)
  | 6 => rh_dP (a.2.2 → b.2.2)
  | 7 => rh_dI (a.1 / b.1)
  | 8 => rh_dI (a.1 % b.1)
  | 9 => rh_dI (rh_and a.1 b.1)
  | 10 => rh_dI (rh_or a.1 b.1)
  | 11 => rh_dI (rh_xor a.1 b.1)
  | 12 => rh_dI (rh_shl a.1 b.1)
  | 13 => rh_dI (rh_shr a.1 b.1)
  | 14 => rh_dI (rh_land a.1 b.1)
  | 15 => rh_dI (rh_lor a.1 b.1)
  | 16 => rh_dI (rh_lxor a.1 b.1)
  | 17 => rh_dI (rh_lshl a.1 b.1)
  | 18 => rh_dI (rh_lshr a.1 b.1)
  | 19 => rh_dI (rh_lushr a.1 b.1)
  | k => rh_dP (rh_bl w (k - 30) a.1 b.1)
/-- of three: 0 what the memory holds, 1 one or the other -/
noncomputable def rh_o3 (k : Nat) (a b c : rhD) : rhD := match k with
  | 0 => rh_dI (a.2.1 b.1 c.1)
  | _ => (rh_if a.2.2 b.1 c.1, rh_if a.2.2 b.2.1 c.2.1, False)
noncomputable def rh_den (e : rhEn) : rhX → rhD
  | .num x => rh_dI x
  | .var i => rh_dI (rh_vi e.1 i)
  | .natCast i => rh_dM (rh_vm e.2.1 i)
  | .intCast _ => rh_dP True
  | .neg a => rh_dI (-(rh_den e a).1)
  | .add a b => rh_dI ((rh_den e a).1 + (rh_den e b).1)
  | .sub a b => rh_dI ((rh_den e a).1 - (rh_den e b).1)
  | .mul a b => rh_dI ((rh_den e a).1 * (rh_den e b).1)
  | .pow (.neg a) k => rh_o1 k (rh_den e a)
  | .pow (.add a b) k => rh_o2 e.2.2 k (rh_den e a) (rh_den e b)
  | .pow (.sub a (.add b c)) k => rh_o3 k (rh_den e a) (rh_den e b) (rh_den e c)
  | .pow (.mul (.add a b) (.add c d)) _ => rh_dM (rh_set (rh_den e a).2.1 (rh_den e b).1 (rh_den e c).1 (rh_den e d).1)
  | _ => rh_d0
def rh_xe : rhX → rhX → Bool
  | .num a, .num b => decide (a = b)
  | .var i, .var j => Nat.beq i j
  | .natCast i, .natCast j => Nat.beq i j
  | .intCast a, .intCast b => decide (a = b)
  | .neg a, .neg b => rh_xe a b
  | .add a b, .add c d => rh_xe a c && rh_xe b d
  | .sub a b, .sub c d => rh_xe a c && rh_xe b d
  | .mul a b, .mul c d => rh_xe a c && rh_xe b d
  | .pow a i, .pow b j => Nat.beq i j && rh_xe a b
  | _, _ => false
theorem rh_xe_eq : ∀ {a b : rhX}, rh_xe a b = true → a = b := by
  intro a
  induction a with
  | num x => intro b h; cases b <;> simp [rh_xe] at h ⊢; exact h
  | var i => intro b h; cases b <;> simp [rh_xe] at h ⊢; exact h
  | natCast i => intro b h; cases b <;> simp [rh_xe] at h ⊢; exact h
  | intCast i => intro b h; cases b <;> simp [rh_xe] at h ⊢; exact h
  | neg a ih => intro b h; cases b <;> simp [rh_xe] at h ⊢; exact ih h
  | add a b iha ihb => intro c h; cases c <;> simp [rh_xe] at h ⊢; exact ⟨iha h.1, ihb h.2⟩
  | sub a b iha ihb => intro c h; cases c <;> simp [rh_xe] at h ⊢; exact ⟨iha h.1, ihb h.2⟩
  | mul a b iha ihb => intro c h; cases c <;> simp [rh_xe] at h ⊢; exact ⟨iha h.1, ihb h.2⟩
  | pow a k ih => intro c h; cases c <;> simp [rh_xe] at h ⊢; exact ⟨ih h.2, h.1⟩
/-- a variable (false: a number, true: a memory) that isn't there -/
def rh_no (b : Bool) (i : Nat) : rhX → Bool
  | .num _ => true
  | .var j => b || !(Nat.beq i j)
  | .natCast j => !b || !(Nat.beq i j)
  | .intCast _ => true
  | .neg a => rh_no b i a
  | .add a c => rh_no b i a && rh_no b i c
  | .sub a c => rh_no b i a && rh_no b i c
  | .mul a c => rh_no b i a && rh_no b i c
  | .pow a _ => rh_no b i a
def rh_ei (e : rhEn) (i : Nat) (v : Int) : rhEn := ((i, v) :: e.1, e.2)
def rh_em (e : rhEn) (i : Nat) (v : rhM) : rhEn := (e.1, (i, v) :: e.2.1, e.2.2)
theorem rh_no_i {e : rhEn} {i : Nat} {v : Int} {x : rhX} (h : rh_no false i x = true) : rh_den (rh_ei e i v) x = rh_den e x := by
  fun_induction rh_den e x <;> simp_all [rh_no, rh_den, rh_ei, rh_vi]
theorem rh_no_m {e : rhEn} {i : Nat} {v : rhM} {x : rhX} (h : rh_no true i x = true) : rh_den (rh_em e i v) x = rh_den e x := by
  fun_induction rh_den e x <;> simp_all [rh_no, rh_den, rh_em, rh_vm]
/-- others for the variables -/
def rh_sl : List (Nat × rhX) → Nat → rhX
  | [], _ => .num 0
  | q :: l, i => cond (Nat.beq q.1 i) q.2 (rh_sl l i)
def rh_sb (σ : List (Nat × rhX)) (m : rhX) : rhX → rhX
  | .num x => .num x
  | .var i => rh_sl σ i
  | .natCast _ => m
  | .intCast x => .intCast x
  | .neg a => .neg (rh_sb σ m a)
  | .add a b => .add (rh_sb σ m a) (rh_sb σ m b)
  | .sub a b => .sub (rh_sb σ m a) (rh_sb σ m b)
  | .mul a b => .mul (rh_sb σ m a) (rh_sb σ m b)
  | .pow (.neg a) k => .pow (.neg (rh_sb σ m a)) k
  | .pow (.add a b) k => .pow (.add (rh_sb σ m a) (rh_sb σ m b)) k
  | .pow (.sub a (.add b c)) k => .pow (.sub (rh_sb σ m a) (.add (rh_sb σ m b) (rh_sb σ m c))) k
  | .pow (.mul (.add a b) (.add c d)) k => .pow (.mul (.add (rh_sb σ m a) (rh_sb σ m b)) (.add (rh_sb σ m c) (rh_sb σ m d))) k
  | x => x
end RhTerm
