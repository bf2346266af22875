/-! ===== methods in one step: where they come from; what a method does, and two of them side by side ===== -/
section RhPairs
variable {w w2 : rhW} {Y Y' Y2 : rhY} {h h' h2 lo hi : Nat}
/-- calls -/
def rh_csr (w : rhW) (Y Y' : rhY) (idx na : Nat) : Prop := ∀ (n : Nat) (Q : rhQ) (pc : Nat) (L : rhL) (S1 av : List rhA) (M : rhM), decode (ry_c Y) pc = .ok (.invokestatic idx, 3) → na = av.length → rh_wd S1 ≤ 8 →
  rh_OK w Y' n av M (fun r M' => rh_AT w Y (n + 1) Q (pc + 3) L (rh_res (ry_r Y') r S1) M') → rh_AT w Y (n + 1) Q pc L (av.reverse ++ S1) M
def rh_cvr (w : rhW) (Y Y' : rhY) (idx na ci : Nat) : Prop := ∀ (n : Nat) (Q : rhQ) (pc : Nat) (L : rhL) (S1 av : List rhA) (x : Int) (M : rhM), rh_ob w x ci → decode (ry_c Y) pc = .ok (.invokevirtual idx, 3) → na = av.length → rh_wd S1 ≤ 8 →
  rh_OK w Y' n ((2, x) :: av) M (fun r M' => rh_AT w Y (n + 1) Q (pc + 3) L (rh_res (ry_r Y') r S1) M') → rh_AT w Y (n + 1) Q pc L (av.reverse ++ (2, x) :: S1) M
theorem rh_csr.of {idx na : Nat} (hl : Cond.methodLink (ry_y Y).cls idx (ry_y Y') ∈ lw_all ∨ ∃ host, Cond.methodLinkNest (ry_y Y).cls idx (ry_y Y') host ∈ rh_nst) (kk : rh_kS Y' na) : rh_csr w Y Y' idx na :=
  fun n Q pc L S1 av M hd hna hw K => rh_cs (pc + 3) hd hl kk hna rfl hw ⟨Nat.le_refl _, Nat.le_refl _⟩ rfl K
theorem rh_cvr.of {idx na ci : Nat} {q : vw_C} (hc : rh_cls[ci]? = some q) (hl : Cond.methodLink (ry_y Y).cls idx (ry_y Y') ∈ lw_all ∨ ∃ host, Cond.methodLinkNest (ry_y Y).cls idx (ry_y Y') host ∈ rh_nst) (kk : rh_kV Y' q.1 na) : rh_cvr w Y Y' idx na ci :=
  fun n Q pc L S1 av x M ho hd hna hw K => rh_cv (pc + 3) ho hd hc hl kk hna rfl hw ⟨Nat.le_refl _, Nat.le_refl _⟩ rfl K
/-- a method that another class has from its parent -/
def rh_kU (Y : rhY) (C : String) (X : MethodName) (na : Nat) : Prop := Cond.sameMethod X.cls (ry_y Y).cls X.name X.desc ∈ lw_all ∧ Cond.selects C X (ry_y Y) ∈ lw_all ∧ Cond.instanceMethod (ry_y Y) ∈ lw_all ∧ Cond.initialized (ry_y Y).cls ∈ lw_all ∧ Cond.code (ry_y Y) (ry_c Y) (ry_L Y) (ry_r Y) ∈ lw_all ∧
  (ry_y Y = ⟨(ry_y Y).cls, X.name, X.desc⟩ ∧ (ry_y Y).cls ≠ "java/lang/invoke/MethodHandle" ∧ (ry_y Y).cls ≠ "java/lang/invoke/VarHandle" ∧ (parseMethodDescriptor X.desc).map (fun d => d.parameters.length) = some na) ∧ ry_L Y ≤ 81 ∧ rh_rok (ry_r Y) = true
theorem rh_cvr.ofU {idx na ci : Nat} {q : vw_C} {X : MethodName} (hc : rh_cls[ci]? = some q) (hl : Cond.methodLink (ry_y Y).cls idx X ∈ lw_all) (kk : rh_kU Y' q.1 X na) : rh_cvr w Y Y' idx na ci := by
  intro n Q pc L S1 av x M ho hd hna hw K
  subst hna
  exact rh_cU (pc + 3) ho hd hc hl kk.1 kk.2.1 kk.2.2.1 kk.2.2.2.1 kk.2.2.2.2.1 kk.2.2.2.2.2.1.1 kk.2.2.2.2.2.1.2 kk.2.2.2.2.2.2.1 kk.2.2.2.2.2.2.2 rfl hw ⟨Nat.le_refl _, Nat.le_refl _⟩ rfl K
/-- a method's answer and memory, told by terms -/
def rh_ic (w : rhW) (Y : rhY) (h : Nat) (ts : List Nat) (kbs : List (rhX × Nat × rhX)) (ob : List rhX) (res mem : rhX) : Prop := ∀ (n : Nat) (xs : List Int) (M : rhM), xs.length = ts.length → rh_KB (rh_num 0 xs, [(0, M)], w) kbs → rh_hold (rh_num 0 xs, [(0, M)], w) ob →
  ∀ Q : Int → rhM → Prop, Q (rh_den (rh_num 0 xs, [(0, M)], w) res).1 (rh_den (rh_num 0 xs, [(0, M)], w) mem).2.1 → rh_OK w Y (n + h) (ts.zip xs) M Q
def rh_lit : List (Nat × Int) → Nat → rhX
  | [], i => .var i
  | q :: l, i => cond (Nat.beq q.1 i) (.num q.2) (rh_lit l i)
def rh_l0 (lits : List (Nat × Int)) : Nat → Nat → List Nat → rhLx
  | _, _, [] => []
  | p, i, t :: ts => (p, t, rh_lit lits i) :: rh_l0 lits (if t = 1 ∨ t = 4 then p + 2 else p + 1) (i + 1) ts
theorem rh_lit_d {e : rhEn} {i : Nat} : ∀ {lits : List (Nat × Int)}, rh_hold e (lits.map fun q => .pow (.add (.var q.1) (.num q.2)) 2) → (rh_den e (rh_lit lits i)).1 = rh_vi e.1 i
  | [], _ => rfl
  | q :: l, hh => by
    obtain ⟨h1, h2⟩ := rh_hold_c hh
    unfold rh_lit
    cases hb : Nat.beq q.1 i with
    | true =>
      obtain rfl := Nat.eq_of_beq_eq_true hb
      have h3 : rh_vi e.1 q.1 = q.2 := h1
      exact h3.symm
    | false => exact rh_lit_d h2
theorem rh_vi_num : ∀ (j i : Nat) (xs : List Int) (x : Int), xs[i]? = some x → rh_vi (rh_num j xs) (j + i) = x
  | _, _, [], _, hh => by cases hh
  | j, 0, y :: l, x, hh => by
    have : y = x := by simpa using hh
    subst this
    unfold rh_num rh_vi
    simp
  | j, i + 1, y :: l, x, hh => by
    have h2 : l[i]? = some x := by simpa using hh
    unfold rh_num rh_vi
    have hb : Nat.beq j (j + (i + 1)) = false := by
      cases hz : Nat.beq j (j + (i + 1)) with
      | false => rfl
      | true => have := Nat.eq_of_beq_eq_true hz; omega
    simp only [hb, cond_false]
    rw [show j + (i + 1) = (j + 1) + i by omega]
    exact rh_vi_num (j + 1) i l x h2
theorem rh_l0_d {w : rhW} {M : rhM} {lits : List (Nat × Int)} {xs : List Int} (hh : rh_hold (rh_num 0 xs, [(0, M)], w) (lits.map fun q => .pow (.add (.var q.1) (.num q.2)) 2)) : ∀ (ts : List Nat) (p i : Nat) (ys : List Int), (∀ k : Nat, ys[k]? = xs[i + k]?) → ts.length = ys.length →
    rh_sL (rh_num 0 xs, [(0, M)], w) (rh_l0 lits p i ts) = rh_lo p (ts.zip ys)
  | [], _, _, [], _, _ => rfl
  | [], _, _, _ :: _, _, hl => by simp at hl
  | _ :: _, _, _, [], _, hl => by simp at hl
  | t :: ts, p, i, y :: ys, hy, hl => by
    have hy0 : xs[i]? = some y := by
      have := hy 0
      simpa using this.symm
    have hv : (rh_den (rh_num 0 xs, [(0, M)], w) (rh_lit lits i)).1 = y := by
      rw [rh_lit_d hh]
      have := rh_vi_num 0 i xs y hy0
      rwa [Nat.zero_add] at this
    have ih := rh_l0_d hh ts (if t = 1 ∨ t = 4 then p + 2 else p + 1) (i + 1) ys (fun k => by
      have := hy (k + 1)
      rw [show i + 1 + k = i + (k + 1) by omega, ← this]
      simp) (by simpa using hl)
    show (p, t, (rh_den (rh_num 0 xs, [(0, M)], w) (rh_lit lits i)).1) :: rh_sL (rh_num 0 xs, [(0, M)], w) (rh_l0 lits (if t = 1 ∨ t = 4 then p + 2 else p + 1) (i + 1) ts) = (p, t, y) :: rh_lo (if t = 1 ∨ t = 4 then p + 2 else p + 1) (ts.zip ys)
    rw [hv, ih]
def rh_wt : List Nat → Nat
  | [] => 0
  | t :: ts => (if rh_jk t then 2 else 1) + rh_wt ts
theorem rh_wt_d : ∀ (ts : List Nat) (xs : List Int), ts.length = xs.length → rh_wd (ts.zip xs) = rh_wt ts
  | [], [], _ => rfl
  | [], _ :: _, hl => by simp at hl
  | _ :: _, [], hl => by simp at hl
  | t :: ts, x :: xs, hl => by
    have := rh_wt_d ts xs (by simpa using hl)
    simp only [List.zip_cons_cons, rh_wd, rh_wt, this]
def rh_lxe : List rhX → List rhX → Bool
  | [], [] => true
  | a :: l, b :: m => rh_xe a b && rh_lxe l m
  | _, _ => false
theorem rh_lxe_eq : ∀ {l m : List rhX}, rh_lxe l m = true → l = m
  | [], [], _ => rfl
  | [], _ :: _, hh => by cases hh
  | _ :: _, [], hh => by cases hh
  | a :: l, b :: m, hh => by
    simp only [rh_lxe, Bool.and_eq_true] at hh
    rw [rh_xe_eq hh.1, rh_lxe_eq hh.2]
def rh_icc (lo hi : Nat) (Y : rhY) (l : rhLn) (hn : List (Nat × Nat × Nat × Nat)) (ts : List Nat) (lits : List (Nat × Int)) (kbs : List (rhX × Nat × rhX)) (ob : List rhX) (res mem : rhX) : Bool :=
  Nat.ble (rh_wt ts) (ry_L Y) && (plainName (ry_y Y).cls && (match rh_arm lo hi Y l hn 3000 65536 0 (rh_l0 lits 0 0 ts, [], .natCast 0, kbs, 100) with
    | some (o, s) => rh_lxe ((lits.map fun q => .pow (.add (.var q.1) (.num q.2)) 2) ++ o) ob && ((match s.2.1 with
      | (_, v) :: _ => rh_xe v res
      | [] => false) && rh_xe s.2.2.1 mem)
    | none => false))
theorem rh_icc_ok {l : rhLn} {hn : List (Nat × Nat × Nat × Nat)} {ts : List Nat} {lits : List (Nat × Int)} {kbs : List (rhX × Nat × rhX)} {ob : List rhX} {res mem : rhX} (hs : rh_sd lo hi w) (hl : rh_lok w Y h l) (hc : rh_icc lo hi Y l hn ts lits kbs ob res mem = true) : rh_ic w Y h ts kbs ob res mem := by
  unfold rh_icc at hc
  simp only [Bool.and_eq_true] at hc
  obtain ⟨c1, c2, c3⟩ := hc
  split at c3
  · rename_i o s ha
    simp only [Bool.and_eq_true] at c3
    obtain ⟨d1, d2, d3⟩ := c3
    have d1 := rh_lxe_eq d1
    intro n xs M hx hk ho Q hQ
    rw [← d1] at ho
    obtain ⟨ho1, ho2⟩ := rh_hold_a ho
    have hq := (rh_arm_ok hs hl ha (rh_num 0 xs, [(0, M)], w) rfl hk ho2).2 n (Q, fun _ => False) (.inl ⟨rfl, ?_⟩)
    · refine rh_body rfl c2 (by rw [rh_wt_d _ _ hx.symm]; exact Nat.le_of_ble_eq_true c1) ?_
      have h3 := (rh_at_of (by decide) hq)
      unfold rh_at at h3
      simp only at h3
      rw [rh_l0_d ho1 ts 0 0 xs (fun k => by rw [Nat.zero_add]) hx.symm] at h3
      exact h3.qz
    · obtain ⟨L, S, M2, k2⟩ := s
      simp only at d2 d3
      split at d2
      · rename_i t v r
        unfold rh_fin
        simp only
        rw [rh_xe_eq d2, rh_xe_eq d3]
        exact hQ
      · cases d2
  · cases c3
def rh_rsl (ret : Option FieldType) (res : rhX) : List (Nat × rhX) := match ret with
  | none => []
  | some ty => if rh_it ty then [(0, res)] else if rh_rt ty then [(2, res)] else [(1, res)]
theorem rh_rsl_d {e : rhEn} {ret : Option FieldType} {res : rhX} {S1 : List rhA} : rh_sS e (rh_rsl ret res) ++ S1 = rh_res ret (rh_den e res).1 S1 := by
  unfold rh_rsl rh_res
  split
  · rfl
  · rename_i ty
    by_cases h1 : rh_it ty = true
    · simp [h1, rh_sS]
    · by_cases h2 : rh_rt ty = true
      · simp [h1, h2, rh_sS]
      · simp [h1, h2, rh_sS]
theorem rh_ilS {ts : List Nat} {kbs : List (rhX × Nat × rhX)} {ob : List rhX} {res mem : rhX} {idx : Nat} (hcs : rh_csr w Y Y' idx ts.length) (hic : rh_ic w Y' h' ts kbs ob res mem) (hh : h' < h) : rh_il w Y h (idx, false, ts, kbs, ob, rh_rsl (ry_r Y') res, mem) := by
  intro n Q pc L S1 xs M hd hx hw hk ho K
  have hd : decode (ry_c Y) pc = .ok (.invokestatic idx, 3) := by
    rcases hd with hd | hd
    · exact hd.1
    · cases hd.2
  have hn : n + h = (n + (h - 1 - h') + h') + 1 := by omega
  rw [hn] at K ⊢
  refine hcs _ Q pc L S1 (ts.zip xs) M hd (by simp [hx]) hw (hic _ xs M hx hk ho _ ?_)
  rw [rh_rsl_d] at K
  exact K
theorem rh_ilV {ts : List Nat} {kbs : List (rhX × Nat × rhX)} {ob : List rhX} {res mem : rhX} {idx : Nat} {cis : List Nat} (hcv : ∀ ci ∈ cis, rh_cvr w Y Y' idx ts.length ci) (hic : rh_ic w Y' h' (2 :: ts) kbs ob res mem) (hh : h' < h)
    (hob : ∀ (x : Int) (xs : List Int) (M : rhM), rh_KB (rh_num 0 (x :: xs), [(0, M)], w) kbs → rh_hold (rh_num 0 (x :: xs), [(0, M)], w) ob → ∃ ci ∈ cis, rh_ob w x ci) : rh_il w Y h (idx, true, 2 :: ts, kbs, ob, rh_rsl (ry_r Y') res, mem) := by
  intro n Q pc L S1 xs M hd hx hw hk ho K
  have hd : decode (ry_c Y) pc = .ok (.invokevirtual idx, 3) := by
    rcases hd with hd | hd
    · cases hd.2
    · exact hd.1
  cases xs with
  | nil => simp at hx
  | cons x xs =>
    have hn : n + h = (n + (h - 1 - h') + h') + 1 := by omega
    rw [hn] at K ⊢
    obtain ⟨ci, hci, hobj⟩ := hob x xs M hk ho
    have hx2 : xs.length = ts.length := by simpa using hx
    have hS : ((2 :: ts).zip (x :: xs)).reverse ++ S1 = (ts.zip xs).reverse ++ (2, x) :: S1 := by simp
    show rh_AT w Y _ Q pc L (((2 :: ts).zip (x :: xs)).reverse ++ S1) M
    rw [hS]
    refine hcv ci hci _ Q pc L S1 (ts.zip xs) x M hobj hd (by simp [hx2]) hw ?_
    refine hic _ (x :: xs) M hx hk ho _ ?_
    rw [rh_rsl_d] at K
    exact K
/-- a receiver that is one cell; that begins a block -/
theorem rh_ob1 {kbs : List (rhX × Nat × rhX)} {ob : List rhX} {r : Int} {ci : Nat} (hs : rh_sd lo hi w) (hc : (match rh_ceN lo hi r with | some (.inl [c], _) => Nat.beq c ci | _ => false) = true) (x : Int) (xs : List Int) (M : rhM) (hk : rh_KB (rh_num 0 (x :: xs), [(0, M)], w) kbs) (ho : rh_hold (rh_num 0 (x :: xs), [(0, M)], w) (.pow (.add (.var 0) (.num r)) 2 :: ob)) : ∃ c ∈ [ci], rh_ob w x c := by
  have h1 : x = r := (rh_hold_c ho).1
  subst h1
  split at hc
  · rename_i c l hce
    obtain rfl := Nat.eq_of_beq_eq_true hc
    obtain ⟨c2, hm, hob⟩ := (rh_ceN_ok (e := (rh_num 0 (x :: xs), [(0, M)], w)) hs hce).1 _ rfl
    exact ⟨c2, hm, hob⟩
  · cases hc
def rh_tcl (t : Nat) (cis : List Nat) : Bool := match ((rh_tp t)[0]? : Option rhT) with
  | some (.inl cs, _) => cs.all (fun c => cis.contains c)
  | _ => false
theorem rh_ob2b {kbs : List (rhX × Nat × rhX)} {ob : List rhX} {t : Nat} {p : rhX} {cis : List Nat} (hc : rh_tcl t cis = true) (x : Int) (xs : List Int) (M : rhM) (hk : rh_KB (rh_num 0 (x :: xs), [(0, M)], w) ((.var 0, t, p) :: kbs)) (ho : rh_hold (rh_num 0 (x :: xs), [(0, M)], w) ob) : ∃ c ∈ cis, rh_ob w x c := by
  have h1 : rh_bl w t x _ := hk _ List.mem_cons_self
  unfold rh_tcl at hc
  split at hc
  · rename_i cs q hq
    obtain ⟨ci, hm, hob⟩ := (h1.2 0 _ hq).1
    refine ⟨ci, by simpa using List.all_eq_true.mp hc ci hm, ?_⟩
    simpa using hob
  · cases hc
/-- WHAT A METHOD DOES, from its head; from a place in it -/
def eC (w : rhW) (Y : rhY) (h : Nat) (av : List rhA) (M : rhM) (r : Int) (M' : rhM) : Prop := ∀ n : Nat, rh_OK w Y (n + h) av M (fun r1 M1 => r1 = r ∧ M1 = M')
def eA (w : rhW) (Y : rhY) (h pc : Nat) (L : rhL) (S : List rhA) (M : rhM) (r : Int) (M' : rhM) : Prop := ∀ n : Nat, rh_AT w Y (n + h) (fun r1 M1 => r1 = r ∧ M1 = M', fun _ => False) pc L S M
def rh1 (w : rhW) (Y : rhY) (h pc : Nat) (L : rhL) (S : List rhA) (M : rhM) (P : Int → rhM → Prop) : Prop := ∃ (r : Int) (M' : rhM), eA w Y h pc L S M r M' ∧ P r M'
def rh2 (w : rhW) (Y : rhY) (h pc : Nat) (L : rhL) (S : List rhA) (M : rhM) (w2 : rhW) (Y2 : rhY) (h2 pc2 : Nat) (L2 : rhL) (S2 : List rhA) (M2 : rhM) (P : Int → rhM → Int → rhM → Prop) : Prop :=
  ∃ (r : Int) (M' : rhM) (r2 : Int) (M2' : rhM), eA w Y h pc L S M r M' ∧ eA w2 Y2 h2 pc2 L2 S2 M2 r2 M2' ∧ P r M' r2 M2'
variable {pc pc2 : Nat} {L L2 : rhL} {S S2 : List rhA} {M M2 : rhM}
theorem rh1.of {P : Int → rhM → Prop} (H : rhLf w Y h pc L S M (fun pc L S M => rh1 w Y h pc L S M P) P) : rh1 w Y h pc L S M P := by
  rcases H with ⟨p, l, s, m, ⟨r, M', a, b⟩, c⟩ | ⟨r, M', a, c⟩
  · exact ⟨r, M', fun n => c n _ (a n), b⟩
  · exact ⟨r, M', fun n => c n _ ⟨rfl, rfl⟩, a⟩
theorem rh2.l {P : Int → rhM → Int → rhM → Prop} (H : rhLf w Y h pc L S M (fun pc L S M => rh2 w Y h pc L S M w2 Y2 h2 pc2 L2 S2 M2 P) (fun r M' => rh1 w2 Y2 h2 pc2 L2 S2 M2 (P r M'))) : rh2 w Y h pc L S M w2 Y2 h2 pc2 L2 S2 M2 P := by
  rcases H with ⟨p, l, s, m, ⟨r, M', r2, M2', a, b, d⟩, c⟩ | ⟨r, M', ⟨r2, M2', a, b⟩, c⟩
  · exact ⟨r, M', r2, M2', fun n => c n _ (a n), b, d⟩
  · exact ⟨r, M', r2, M2', fun n => c n _ ⟨rfl, rfl⟩, a, b⟩
theorem rh2.r {P : Int → rhM → Int → rhM → Prop} (H : rhLf w2 Y2 h2 pc2 L2 S2 M2 (fun pc2 L2 S2 M2 => rh2 w Y h pc L S M w2 Y2 h2 pc2 L2 S2 M2 P) (fun r2 M2' => rh1 w Y h pc L S M (fun r M' => P r M' r2 M2'))) : rh2 w Y h pc L S M w2 Y2 h2 pc2 L2 S2 M2 P := by
  rcases H with ⟨p, l, s, m, ⟨r, M', r2, M2', a, b, d⟩, c⟩ | ⟨r2, M2', ⟨r, M', a, b⟩, c⟩
  · exact ⟨r, M', r2, M2', a, fun n => c n _ (b n), d⟩
  · exact ⟨r, M', r2, M2', a, fun n => c n _ ⟨rfl, rfl⟩, b⟩
theorem rh2.ends {P : Int → rhM → Int → rhM → Prop} {r : Int} {M' : rhM} (H : rh1 w2 Y2 h2 pc2 L2 S2 M2 (P r M')) (E : eA w Y h pc L S M r M') : rh2 w Y h pc L S M w2 Y2 h2 pc2 L2 S2 M2 P := by
  obtain ⟨r2, M2', a, b⟩ := H
  exact ⟨r, M', r2, M2', E, a, b⟩
/-- a contract of one, of two -/
def rC1 (w : rhW) (Y : rhY) (h : Nat) (av : List rhA) (M : rhM) (P : Int → rhM → Prop) : Prop := ∃ (r : Int) (M' : rhM), eC w Y h av M r M' ∧ P r M'
def rC2 (w : rhW) (Y : rhY) (h : Nat) (av : List rhA) (M : rhM) (w2 : rhW) (Y2 : rhY) (h2 : Nat) (av2 : List rhA) (M2 : rhM) (P : Int → rhM → Int → rhM → Prop) : Prop :=
  ∃ (r : Int) (M' : rhM) (r2 : Int) (M2' : rhM), eC w Y h av M r M' ∧ eC w2 Y2 h2 av2 M2 r2 M2' ∧ P r M' r2 M2'
theorem eC.of {av : List rhA} {r : Int} {M' : rhM} (hy : plainName (ry_y Y).cls = true) (hn : rh_wd av ≤ ry_L Y) (E : eA w Y h 0 (rh_lo 0 av) [] M r M') : eC w Y h av M r M' := fun n => rh_body rfl hy hn (E n).qz
theorem rC1.of {av : List rhA} {P : Int → rhM → Prop} (hy : plainName (ry_y Y).cls = true) (hn : rh_wd av ≤ ry_L Y) (H : rh1 w Y h 0 (rh_lo 0 av) [] M P) : rC1 w Y h av M P := by
  obtain ⟨r, M', a, b⟩ := H
  exact ⟨r, M', eC.of hy hn a, b⟩
theorem rC2.of {av av2 : List rhA} {P : Int → rhM → Int → rhM → Prop} (hy : plainName (ry_y Y).cls = true) (hn : rh_wd av ≤ ry_L Y) (hy2 : plainName (ry_y Y2).cls = true) (hn2 : rh_wd av2 ≤ ry_L Y2) (H : rh2 w Y h 0 (rh_lo 0 av) [] M w2 Y2 h2 0 (rh_lo 0 av2) [] M2 P) : rC2 w Y h av M w2 Y2 h2 av2 M2 P := by
  obtain ⟨r, M', r2, M2', a, b, c⟩ := H
  exact ⟨r, M', r2, M2', eC.of hy hn a, eC.of hy2 hn2 b, c⟩
theorem rC1.mono {av : List rhA} {P P' : Int → rhM → Prop} (H : rC1 w Y h av M P) (hp : ∀ r M', P r M' → P' r M') : rC1 w Y h av M P' := by
  obtain ⟨r, M', a, b⟩ := H
  exact ⟨r, M', a, hp _ _ b⟩
/-- a call: what the callee does, then on -/
theorem eA.cs {idx na : Nat} {av S1 : List rhA} {r0 : Int} {M0 : rhM} {r : Int} {M' : rhM} (hcs : rh_csr w Y Y' idx na) (hh : h' < h) (hd : decode (ry_c Y) pc = .ok (.invokestatic idx, 3)) (hna : na = av.length) (hw : rh_wd S1 ≤ 8) (hS : S = av.reverse ++ S1) (E : eC w Y' h' av M r0 M0) (K : eA w Y h (pc + 3) L (rh_res (ry_r Y') r0 S1) M0 r M') : eA w Y h pc L S M r M' := by
  intro n
  subst hS
  have hn : n + h = (n + (h - 1 - h') + h') + 1 := by omega
  have K2 := K n
  rw [hn] at K2 ⊢
  refine hcs _ _ pc L S1 av M hd hna hw (rh_OK.mono (E _) (fun r1 M1 _ _ hz => ?_))
  rw [hz.1, hz.2]
  exact K2
theorem eA.cv {idx na ci : Nat} {av S1 : List rhA} {x : Int} {r0 : Int} {M0 : rhM} {r : Int} {M' : rhM} (hcv : rh_cvr w Y Y' idx na ci) (ho : rh_ob w x ci) (hh : h' < h) (hd : decode (ry_c Y) pc = .ok (.invokevirtual idx, 3)) (hna : na = av.length) (hw : rh_wd S1 ≤ 8) (hS : S = av.reverse ++ (2, x) :: S1) (E : eC w Y' h' ((2, x) :: av) M r0 M0) (K : eA w Y h (pc + 3) L (rh_res (ry_r Y') r0 S1) M0 r M') : eA w Y h pc L S M r M' := by
  intro n
  subst hS
  have hn : n + h = (n + (h - 1 - h') + h') + 1 := by omega
  have K2 := K n
  rw [hn] at K2 ⊢
  refine hcv _ _ pc L S1 av x M ho hd hna hw (rh_OK.mono (E _) (fun r1 M1 _ _ hz => ?_))
  rw [hz.1, hz.2]
  exact K2
/-- a place leads to a place -/
def eS (w : rhW) (Y : rhY) (h pc : Nat) (L : rhL) (S : List rhA) (M : rhM) (pc' : Nat) (L' : rhL) (S' : List rhA) (M' : rhM) : Prop := ∀ (r : Int) (M0 : rhM), eA w Y h pc' L' S' M' r M0 → eA w Y h pc L S M r M0
theorem rh1.s {P : Int → rhM → Prop} {pc' : Nat} {L' : rhL} {S' : List rhA} {M' : rhM} (E : eS w Y h pc L S M pc' L' S' M') (H : rh1 w Y h pc' L' S' M' P) : rh1 w Y h pc L S M P := by
  obtain ⟨r, M0, a, b⟩ := H
  exact ⟨r, M0, E _ _ a, b⟩
theorem rh2.sl {P : Int → rhM → Int → rhM → Prop} {pc' : Nat} {L' : rhL} {S' : List rhA} {M' : rhM} (E : eS w Y h pc L S M pc' L' S' M') (H : rh2 w Y h pc' L' S' M' w2 Y2 h2 pc2 L2 S2 M2 P) : rh2 w Y h pc L S M w2 Y2 h2 pc2 L2 S2 M2 P := by
  obtain ⟨r, M0, r2, M20, a, b, c⟩ := H
  exact ⟨r, M0, r2, M20, E _ _ a, b, c⟩
theorem rh2.sr {P : Int → rhM → Int → rhM → Prop} {pc' : Nat} {L' : rhL} {S' : List rhA} {M' : rhM} (E : eS w2 Y2 h2 pc2 L2 S2 M2 pc' L' S' M') (H : rh2 w Y h pc L S M w2 Y2 h2 pc' L' S' M' P) : rh2 w Y h pc L S M w2 Y2 h2 pc2 L2 S2 M2 P := by
  obtain ⟨r, M0, r2, M20, a, b, c⟩ := H
  exact ⟨r, M0, r2, M20, a, E _ _ b, c⟩
end RhPairs
