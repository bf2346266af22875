/-! ===== ends of methods, bodies, calls ===== -/
section RhEnds
variable {w : rhW} {Y : rhY} {n mc ms : Nat} {pc : Nat} {L : rhL} {M : rhM} {Q : Int → rhM → Prop}
theorem rh_retI {t : Nat} {v : Int} {ty : FieldType} (hd : decode (ry_c Y) pc = .ok (.ireturn, 1)) (hr : ry_r Y = some ty) (hty : rh_it ty = true) (ht : rh_ik t = true) (hv : rh_ok (t, v) → rh_rg ty v) (hQ : Q v M) : rh_At w Y n (mc, ms, mc, ms) (rh_Z w Y mc ms Q) pc L [(t, v)] M := by
  intro p l e R s m args below meth c H locs ls C D
  obtain ⟨g1, g2, g3, g4, g5, g6⟩ := D
  have hv := hv (rh_okh g3)
  have hlocks : meth.locks = false := C.2.2.2.2.1
  have hn : narrow ty (.int (rhI v)) = .int (rhI v) := by
    have := (rh_nar (b := rw_b w) hv (Or.inl hty)).1
    rwa [rh_v_i hty] at this
  show W p l e R s m args below meth c H locs mc ms (MQ below (rh_Qc w (ry_r Y) Q) args s mc ms (rh_A w)) (F0 m pc ls [rh_a w (t, v)])
  rw [rh_a_i ht]
  refine W.zret (ty := ty) C.1 C.2.1 (C.2.2.2.1.trans hr) hn (fun t ht hW => ⟨v, M, ?_, ?_, g1, by rw [ht]; exact g4, g5.F ht, hQ⟩) g5.2.2 hd hlocks
  · rw [hr]
    show _ = Outcome.returned (some (rh_v (rw_b w) ty v))
    rw [rh_v_i hty]
  · rw [hr]; exact hv
theorem rh_retJ {t : Nat} {v : Int} (hd : decode (ry_c Y) pc = .ok (.lreturn, 1)) (hr : ry_r Y = some .long) (ht : rh_jk t = true) (hv : t = 1 ∨ rL v) (hQ : Q v M) : rh_At w Y n (mc, ms, mc, ms) (rh_Z w Y mc ms Q) pc L [(t, v)] M := by
  intro p l e R s m args below meth c H locs ls C D
  obtain ⟨g1, g2, g3, g4, g5, g6⟩ := D
  have hv : rL v := rh_okj (rh_okh g3) hv
  have hlocks : meth.locks = false := C.2.2.2.2.1
  show W p l e R s m args below meth c H locs mc ms (MQ below (rh_Qc w (ry_r Y) Q) args s mc ms (rh_A w)) (F0 m pc ls [rh_a w (t, v)])
  rw [rh_a_j ht]
  refine W.lret C.1 C.2.1 (C.2.2.2.1.trans hr) (fun t ht hW => ⟨v, M, ?_, ?_, g1, by rw [ht]; exact g4, g5.F ht, hQ⟩) g5.2.2 hd hlocks
  · rw [hr]; rfl
  · rw [hr]; exact hv
theorem rh_retV (hd : decode (ry_c Y) pc = .ok (.return_, 1)) (hr : ry_r Y = none) (hQ : Q 0 M) : rh_At w Y n (mc, ms, mc, ms) (rh_Z w Y mc ms Q) pc L [] M := by
  intro p l e R s m args below meth c H locs ls C D
  obtain ⟨g1, g2, g3, g4, g5, g6⟩ := D
  have hlocks : meth.locks = false := C.2.2.2.2.1
  show W p l e R s m args below meth c H locs mc ms (MQ below (rh_Qc w (ry_r Y) Q) args s mc ms (rh_A w)) (F0 m pc ls [])
  refine W.vret C.1 C.2.1 (C.2.2.2.1.trans hr) (fun t ht hW => ⟨0, M, ?_, ?_, g1, by rw [ht]; exact g4, g5.F ht, hQ⟩) g5.2.2 hd hlocks
  · rw [hr]; rfl
  · rw [hr]; trivial
theorem rh_retR {v : Int} {ty : FieldType} (hd : decode (ry_c Y) pc = .ok (.areturn, 1)) (hr : ry_r Y = some ty) (hty : rh_rt ty = true) (hQ : Q v M) : rh_At w Y n (mc, ms, mc, ms) (rh_Z w Y mc ms Q) pc L [(2, v)] M := by
  intro p l e R s m args below meth c H locs ls C D
  obtain ⟨g1, g2, g3, g4, g5, g6⟩ := D
  have hlocks : meth.locks = false := C.2.2.2.2.1
  show W p l e R s m args below meth c H locs mc ms (MQ below (rh_Qc w (ry_r Y) Q) args s mc ms (rh_A w)) (F0 m pc ls [va_rf (rh_r (rw_b w) v)])
  refine W.aret (rt := ty) C.1 C.2.1 (C.2.2.2.1.trans hr) ?_ ?_ (fun t ht hW => ⟨v, M, ?_, ?_, g1, by rw [ht]; exact g4, g5.F ht, hQ⟩) g5.2.2 hd hlocks
  · cases ty <;> simp [rh_rt] at hty
    · exact Or.inl ⟨_, rfl⟩
    · exact Or.inr ⟨_, rfl⟩
  · cases rh_r (rw_b w) v with
    | none => exact Or.inl rfl
    | some a => exact Or.inr ⟨a, rfl⟩
  · rw [hr]
    show _ = Outcome.returned (some (rh_v (rw_b w) ty v))
    rw [rh_v_r hty]
  · rw [hr]
    show rh_rg ty v
    cases ty <;> simp [rh_rt] at hty <;> trivial
/-- the world with other cells -/
def rh_up (w : rhW) (n : Nat) (kd : Nat → rhK) (rf : Nat → Nat → Option Nat) : rhW := (w.1, w.2.1, w.2.2.1, w.2.2.2.1, n, kd, rf)
def rh_wd : List rhA → Nat
  | [] => 0
  | a :: l => (if rh_jk a.1 then 2 else 1) + rh_wd l
theorem rh_wd_eq (w : rhW) (av : List rhA) : (lg_sl (av.map (rh_a w))).length = rh_wd av := by
  induction av with
  | nil => rfl
  | cons a l ih =>
    have h : lg_sl ((a :: l).map (rh_a w)) = (if (rh_a w a).category = 2 then [Slot.val (rh_a w a), .second] else [.val (rh_a w a)]) ++ lg_sl (l.map (rh_a w)) := by
      simp [lg_sl]
    rw [h, List.length_append, ih]
    have hc := rh_catj w a
    show _ = (if rh_jk a.1 then 2 else 1) + rh_wd l
    rw [← hc]
    rcases lv_cat (rh_a w a) with h1 | h1 <;> simp [h1]
theorem rh_body {w w' : rhW} {av : List rhA} (hA : rh_A w' = rh_A w) (hy : plainName (ry_y Y).cls = true) (hn : rh_wd av ≤ ry_L Y) (K : rh_At w Y n (0, 0, mc, ms) (rh_Z w' Y mc ms Q) 0 (rh_lo 0 av) [] M) : rh_OKg w w' Y n mc ms av M Q := by
  intro l
  refine Met.ofW (cc := ry_c Y) (maxL := ry_L Y) (ret := ry_r Y) hy rfl ?_
  intro p e s m args below meth c s₁ B hml hv
  obtain ⟨rfl, hX, hsz, hwm, hok, hH, htg⟩ := hv
  have hts := atoms_spec (ws := ws_ (ry_y Y) (ry_c Y) (ry_L Y) (ry_r Y)) B.pre
  have hts : ∀ x ∈ lw_all, x.before _ s = true := fun x h => hts x (List.mem_cons_of_mem _ h)
  have hown : s.vm.findClass (ry_y Y).cls = some m.cls := findClass_of_methodNamed B.named
  have hnm : meth.name = (ry_y Y).name := (name_of_methodNamed B.named B.method).1
  have hl := lv_entry (av.map (rh_a w)) (n := ry_L Y) (by rw [rh_wd_eq]; exact hn)
  rw [lg_entry_eq]
  generalize (lg_sl (av.map (rh_a w)) ++ List.replicate (ry_L Y - (lg_sl (av.map (rh_a w))).length) Slot.unset).toArray = ls0 at hl ⊢
  rw [← rh_lo_eq w av 0] at hl
  have KK := K p l e (headSpec (ws_ (ry_y Y) (ry_c Y) (ry_L Y) (ry_r Y)) (rh_rm n mc ms)).room s m _ below meth c s.heap [] ls0 ⟨B.exec, B.bytes, hml, B.returns, B.notSynchronized, hown, hnm, hts, hX, Nat.le_refl _, Nat.le_refl _, Nat.le_refl _, Nat.le_refl _, Nat.zero_le _, Nat.zero_le _, hsz, htg, B.named⟩
    ⟨hwm, ?_, (fun z hz => absurd hz List.not_mem_nil), hH, va_S.rf, hl⟩
  · unfold rh_Z at KK
    rw [hA] at KK
    exact KK
  · have : ∀ (av : List rhA) (i : Nat), (∀ z ∈ av, rh_ok z) → ∀ z ∈ rh_lo i av, rh_ok z.2 := by
      intro av
      induction av with
      | nil => intro i _ z hz; cases hz
      | cons a t ih =>
        intro i h z hz
        rcases List.mem_cons.mp hz with rfl | hz
        · exact h _ List.mem_cons_self
        · exact ih _ (fun y hy => h y (List.mem_cons_of_mem _ hy)) z hz
    exact this av 0 hok
end RhEnds
section RhCalls
variable {w : rhW} {Y : rhY} {n : Nat} {k : Nat × Nat × Nat × Nat} {Z : List Frame → Array Value → State → State → Prop} {pc : Nat} {L : rhL} {S S1 : List rhA} {M : rhM}
/-- what an answer lays on the stack -/
def rh_res (ret : Option FieldType) (r : Int) (S : List rhA) : List rhA := match ret with
  | none => S
  | some ty => if rh_it ty then (0, r) :: S else if rh_rt ty then (2, r) :: S else (1, r) :: S
def rh_rok (ret : Option FieldType) : Bool := match ret with
  | none => true
  | some ty => rh_it ty || rh_rt ty || ty == .long
theorem rh_res_v {ret : Option FieldType} {r : Int} (h : rh_rok ret = true) : (rh_res ret r S1).map (rh_a w) = (rh_ov w ret r).toList ++ S1.map (rh_a w) := by
  cases ret with
  | none => rfl
  | some ty =>
    simp only [rh_res, rh_ov, Option.map_some]
    by_cases h1 : rh_it ty = true
    · rw [if_pos h1, rh_v_i h1]; rfl
    · rw [if_neg h1]
      by_cases h2 : rh_rt ty = true
      · rw [if_pos h2, rh_v_r h2]; rfl
      · rw [if_neg h2]
        have h3 : ty = .long := by
          simp only [rh_rok, h1, h2, Bool.false_or, beq_iff_eq] at h
          exact h
        subst h3
        rfl
theorem rh_res_ok {ret : Option FieldType} {r : Int} (h : rh_rok ret = true) (hr : rh_og ret r) (hs : ∀ z ∈ S1, rh_ok z) : ∀ z ∈ rh_res ret r S1, rh_ok z := by
  cases ret with
  | none => exact hs
  | some ty =>
    simp only [rh_res]
    by_cases h1 : rh_it ty = true
    · rw [if_pos h1]; exact rh_okc (a := (0, r)) (rh_rg_i h1 hr) hs
    · rw [if_neg h1]
      by_cases h2 : rh_rt ty = true
      · rw [if_pos h2]; exact rh_okc (a := (2, r)) trivial hs
      · rw [if_neg h2]
        have h3 : ty = .long := by
          simp only [rh_rok, h1, h2, Bool.false_or, beq_iff_eq] at h
          exact h
        subst h3
        exact rh_okc (a := (1, r)) hr hs
theorem rh_A_up {n' mc : Nat} {kd' : Nat → rhK} {rf' : Nat → Nat → Option Nat} (hn : n' = rw_n w + mc ∧ (rw_g w = true ∨ mc = 0)) : rh_A (rh_up w n' kd' rf') = rh_A w := by
  funext q
  show (rw_b w ≤ q ∧ (rw_g w = true ∨ q < rw_b w + n')) = (rw_b w ≤ q ∧ (rw_g w = true ∨ q < rw_b w + rw_n w))
  rcases hn.2 with h | h
  · simp [h]
  · rw [hn.1, h, Nat.add_zero]
theorem rh_X_up {n' mc : Nat} {kd' : Nat → rhK} {rf' : Nat → Nat → Option Nat} {s : State} (hn : n' = rw_n w + mc ∧ (rw_g w = true ∨ mc = 0)) (h : rh_X w s) : rh_X (rh_up w n' kd' rf') s := by
  unfold rh_X
  rw [rh_A_up (kd' := kd') (rf' := rf') hn]
  exact h
theorem rh_after {p : Program} {l : Launch} {e : Env} {R : Room} {s : State} {m : MethodId} {args : Array Value} {below : List Frame} {meth : Method} {c : Code} {H : Heap} {locs : List Loc} {ls : Array Slot} {st0 : List Value} {a : Array Value} {ret : Option FieldType} {mc ms n' : Nat} {kd' : Nat → rhK} {rf' : Nat → Nat → Option Nat}
    (hro : rh_rok ret = true)
    (hr : va_Run p l e R s m args below meth c H locs k.1 k.2.1 mc ms (F0 m pc ls st0) (S1.map (rh_a w)) (rh_Qc (rh_up w n' kd' rf') ret (fun r M' => rh_At (rh_up w n' kd' rf') Y n (k.1 + mc, k.2.1 + ms, k.2.2.1, k.2.2.2) Z (pc + 3) L (rh_res ret r S1) M') a) (rh_A w))
    (hn : n' = rw_n w + mc ∧ (rw_g w = true ∨ mc = 0)) (hk1 : k.1 + mc ≤ k.2.2.1) (hk2 : k.2.1 + ms ≤ k.2.2.2) (C : rh_C w Y n k p R s m args meth c) (hLo : ∀ z ∈ L, rh_ok z.2) (hSo : ∀ z ∈ S1, rh_ok z) (hS : va_S (rh_A w) s.heap H locs) (hl : lv_has ls (ry_L Y) (rh_lv w L)) :
    W p l e R s m args below meth c H locs k.1 k.2.1 (Z below args s) (F0 m pc ls st0) := by
  intro T hT X
  obtain ⟨v, st₀, t, T', LL, h0, X', hL, e1, e2, ⟨r, M', q1, q2, q3, q4, ⟨q5, q5'⟩, q6⟩, st⟩ := hr T hT X
  cases q1
  rw [h0] at q5 q5'
  have hA := rh_A_up (kd' := kd') (rf' := rf') hn
  rw [hA] at q5'
  obtain ⟨c1, c2, c3, c4, c5, c6, c7, c8, c9, c10, c11, c12, c13, c14, c15, c16, c17, c18⟩ := C
  have KK := q6 p l e R s m args below meth c T'.heap (locs ++ LL) ls ⟨c1, c2, c3, c4, c5, c6, c7, c8, rh_X_up hn c9, c10, c11, c12, c13, hk1, hk2, c16, fun g => by have := c17 g; have := hn.1; show s.heap.size + (k.1 + mc) ≤ rw_b w + n'; omega, c18⟩
    ⟨q3, hLo, rh_res_ok hro q2 hSo, by rw [e1]; exact q4, hA.symm ▸ ⟨Nat.le_trans hS.1 (by rw [e1]; exact q5), fun q h1 h2 => by rw [e1, q5' q (Nat.lt_of_lt_of_le h1 hS.1) h2]; exact hS.2.1 q h1 h2, fun q hq => by
      rcases List.mem_append.mp hq with h | h
      · exact hS.2.2 q h
      · exact hL q h⟩, hl⟩
  have hst : (rh_res ret r S1).map (rh_a (rh_up w n' kd' rf')) = (rh_ov (rh_up w n' kd' rf') ret r).toList ++ S1.map (rh_a w) := rh_res_v (w := rh_up w n' kd' rf') hro
  rw [hst] at KK
  obtain ⟨t2, a1, b1⟩ := KK T' rfl X'
  exact ⟨t2, st t2 a1, b1⟩
theorem rh_wd_sum (w : rhW) (S : List rhA) : (List.map (fun v => v.category) (S.map (rh_a w))).sum = rh_wd S := by
  induction S with
  | nil => rfl
  | cons a l ih =>
    simp only [List.map_cons, List.sum_cons, ih, rh_wd]
    have hc := rh_catj w a
    rw [← hc]
    rcases lv_cat (rh_a w a) with h1 | h1 <;> simp [h1]
theorem rh_blind {av : List rhA} : FrameBlind (rh_Pc w av M) := by
  intro a U g mk h
  obtain ⟨h1, h2, h3⟩ := h
  exact ⟨h1, rh_X.same (u := U) (U := U.calling g mk a) rfl rfl h2, h3⟩
theorem rh_preS {av : List rhA} {p : Program} {R : Room} {s : State} {m : MethodId} {args : Array Value} {meth : Method} {c : Code} {H : Heap} {locs : List Loc} (C : rh_C w Y n k p R s m args meth c) (hwm : rh_wm w M) (hok : ∀ z ∈ av, rh_ok z) (hH : rh_H w M H) (hS : va_S (rh_A w) s.heap H locs) (hsz : rw_g w = true → H.size ≤ rw_b w + rw_n w) : ∀ U : State, U.heap = H → s.WarmedH U.vm → rh_Pc w av M (av.map (rh_a w)).toArray U := by
  intro U hU hW
  subst hU
  obtain ⟨-, -, -, -, -, -, -, -, c9, -, -, -, -, -, -, c16, -⟩ := C
  exact ⟨rfl, c9.warm hW hS, Nat.le_trans c16 hS.1, hwm, hok, hH, hsz⟩
/-- how full the heap is, where it ends with the world -/
theorem rh_tight {p : Program} {l : Launch} {e : Env} {R : Room} {s : State} {m : MethodId} {args : Array Value} {below : List Frame} {meth : Method} {c : Code} {H : Heap} {locs : List Loc} {Qf : State → Prop} {g : JFrame} (C : rh_C w Y n k p R s m args meth c)
    (h : (rw_g w = true → H.size ≤ rw_b w + rw_n w) → W p l e R s m args below meth c H locs k.1 k.2.1 Qf g) : W p l e R s m args below meth c H locs k.1 k.2.1 Qf g := by
  intro T hT X
  refine h (fun hg => ?_) T hT X
  have h1 := C.2.2.2.2.2.2.2.2.2.2.2.2.2.2.2.2.1 hg
  have h2 : T.heap.size ≤ s.heap.size + k.1 := X.same.2.2.1
  rw [← hT]
  omega
theorem rh_callS (pc' : Nat) {Y' : rhY} {idx mc ms n' : Nat} {kd' : Nat → rhK} {rf' : Nat → Nat → Option Nat} {av : List rhA} (hd : decode (ry_c Y) pc = .ok (.invokestatic idx, 3)) (hl : Cond.methodLink (ry_y Y).cls idx (ry_y Y') ∈ lw_all) (hst : Cond.static (ry_y Y') ∈ lw_all) (hin : Cond.initialized (ry_y Y').cls ∈ lw_all) (hcd : Cond.code (ry_y Y') (ry_c Y') (ry_L Y') (ry_r Y') ∈ lw_all)
    (hy : (ry_y Y').cls ≠ "java/lang/invoke/MethodHandle" ∧ (ry_y Y').cls ≠ "java/lang/invoke/VarHandle" ∧ (parseMethodDescriptor (ry_y Y').desc).map (fun d => d.parameters.length) = some av.length) (hm : ry_L Y' ≤ 81) (hro : rh_rok (ry_r Y') = true) (hS : S = av.reverse ++ S1) (hS1 : rh_wd S1 ≤ 8)
    (hn : n' = rw_n w + mc ∧ (rw_g w = true ∨ mc = 0)) (hk1 : k.1 + mc ≤ k.2.2.1) (hk2 : k.2.1 + ms ≤ k.2.2.2) (hp : pc + 3 = pc') (K : rh_OKg w (rh_up w n' kd' rf') Y' n mc ms av M (fun r M' => rh_At (rh_up w n' kd' rf') Y (n + 1) (k.1 + mc, k.2.1 + ms, k.2.2.1, k.2.2.2) Z pc' L (rh_res (ry_r Y') r S1) M')) : rh_At w Y (n + 1) k Z pc L S M := by
  subst hp
  subst hS
  intro p l e R s m args below meth c H locs ls C D
  obtain ⟨g1, g2, g3, g4, g5, g6⟩ := D
  refine rh_tight C (fun htg => ?_)
  have hts := C.2.2.2.2.2.2.2.1
  have hok : ∀ z ∈ av, rh_ok z := fun z hz => g3 z (List.mem_append_left _ (List.mem_reverse.mpr hz))
  have hok1 : ∀ z ∈ S1, rh_ok z := fun z hz => g3 z (List.mem_append_right _ hz)
  have hsz : ls.size = ry_L Y := g6.1
  have hsum : (List.map (fun v => v.category) (S1.map (rh_a w))).sum ≤ 8 := by rw [rh_wd_sum]; exact hS1
  refine rh_after hro (va_runS (As := av.map (rh_a w)) ⟨C.1, C.2.1, C.2.2.1, C.2.2.2.2.2.1, hts⟩ (K l) (va_cwS av.length hts (lw_S hl hst hin hcd) rfl rfl rfl hy ⟨?_, ?_⟩) ⟨rh_blind, rh_preS C g1 hok g4 g5 htg⟩ rfl (List.length_map _) hsz ?_ (lv_room hsum) hd ⟨?_, ?_⟩) hn hk1 hk2 C g2 hok1 g5 g6
  · exact C.2.2.2.2.2.2.2.2.2.1
  · have := C.2.2.2.2.2.2.2.2.2.2.1
    show 8 + (ry_L Y' + 11) + 100 * n ≤ R.locals
    omega
  · simp
  · exact Nat.le_trans hk1 C.2.2.2.2.2.2.2.2.2.2.2.1
  · exact Nat.le_trans hk2 C.2.2.2.2.2.2.2.2.2.2.2.2.1
theorem rh_callSN (pc' : Nat) {Y' : rhY} {idx mc ms n' : Nat} {kd' : Nat → rhK} {rf' : Nat → Nat → Option Nat} {av : List rhA} {host : String} (hd : decode (ry_c Y) pc = .ok (.invokestatic idx, 3)) (hl : Cond.methodLinkNest (ry_y Y).cls idx (ry_y Y') host ∈ rh_nst) (hst : Cond.static (ry_y Y') ∈ lw_all) (hin : Cond.initialized (ry_y Y').cls ∈ lw_all) (hcd : Cond.code (ry_y Y') (ry_c Y') (ry_L Y') (ry_r Y') ∈ lw_all)
    (hy : (ry_y Y').cls ≠ "java/lang/invoke/MethodHandle" ∧ (ry_y Y').cls ≠ "java/lang/invoke/VarHandle" ∧ (parseMethodDescriptor (ry_y Y').desc).map (fun d => d.parameters.length) = some av.length) (hm : ry_L Y' ≤ 81) (hro : rh_rok (ry_r Y') = true) (hS : S = av.reverse ++ S1) (hS1 : rh_wd S1 ≤ 8) (hn : n' = rw_n w + mc ∧ (rw_g w = true ∨ mc = 0)) (hk1 : k.1 + mc ≤ k.2.2.1) (hk2 : k.2.1 + ms ≤ k.2.2.2) (hp : pc + 3 = pc') (K : rh_OKg w (rh_up w n' kd' rf') Y' n mc ms av M (fun r M' => rh_At (rh_up w n' kd' rf') Y (n + 1) (k.1 + mc, k.2.1 + ms, k.2.2.1, k.2.2.2) Z pc' L (rh_res (ry_r Y') r S1) M')) : rh_At w Y (n + 1) k Z pc L S M := by
  subst hp
  subst hS
  intro p l e R s m args below meth c H locs ls C D
  obtain ⟨g1, g2, g3, g4, g5, g6⟩ := D
  refine rh_tight C (fun htg => ?_)
  have hts := C.2.2.2.2.2.2.2.1
  have hX := C.2.2.2.2.2.2.2.2.1
  have hok : ∀ z ∈ av, rh_ok z := fun z hz => g3 z (List.mem_append_left _ (List.mem_reverse.mpr hz))
  have hok1 : ∀ z ∈ S1, rh_ok z := fun z hz => g3 z (List.mem_append_right _ hz)
  have hsum : (List.map (fun v => v.category) (S1.map (rh_a w))).sum ≤ 8 := by rw [rh_wd_sum]; exact hS1
  refine rh_after hro (va_runSN (As := av.map (rh_a w)) ⟨C.1, C.2.1, C.2.2.1, C.2.2.2.2.2.1, hts⟩ (K l) ⟨va_cnB av.length hts (lw_meth hcd) rfl rfl rfl (hX.2.1 _ hl) (hts _ hin) hy ⟨?_, ?_⟩, hts _ hst, trivial⟩ ⟨rh_blind, rh_preS C g1 hok g4 g5 htg⟩ rfl (List.length_map _) g6.1 ?_ (lv_room hsum) hd ⟨?_, ?_⟩) hn hk1 hk2 C g2 hok1 g5 g6
  · exact C.2.2.2.2.2.2.2.2.2.1
  · have := C.2.2.2.2.2.2.2.2.2.2.1
    show 8 + (ry_L Y' + 11) + 100 * n ≤ R.locals
    omega
  · simp
  · exact Nat.le_trans hk1 C.2.2.2.2.2.2.2.2.2.2.2.1
  · exact Nat.le_trans hk2 C.2.2.2.2.2.2.2.2.2.2.2.2.1
/-- a call through an object, of a method of its own class -/
theorem rh_callV (pc' : Nat) {Y' : rhY} {idx mc ms n' : Nat} {kd' : Nat → rhK} {rf' : Nat → Nat → Option Nat} {av : List rhA} {r ci : Nat} {x : Int} {q : vw_C} (hx : (r : Int) = x) (hr : r < rw_n w) (hkd : rw_kd w r = .inr ci) (hc : rh_cls[ci]? = some q) (hd : decode (ry_c Y) pc = .ok (.invokevirtual idx, 3)) (hl : Cond.methodLink (ry_y Y).cls idx (ry_y Y') ∈ lw_all) (him : Cond.instanceMethod (ry_y Y') ∈ lw_all) (hse : Cond.selects q.1 (ry_y Y') (ry_y Y') ∈ lw_all) (hin : Cond.initialized q.1 ∈ lw_all) (hcd : Cond.code (ry_y Y') (ry_c Y') (ry_L Y') (ry_r Y') ∈ lw_all)
    (hy : (ry_y Y').cls = q.1 ∧ (ry_y Y').cls ≠ "java/lang/invoke/MethodHandle" ∧ (ry_y Y').cls ≠ "java/lang/invoke/VarHandle" ∧ (parseMethodDescriptor (ry_y Y').desc).map (fun d => d.parameters.length) = some av.length) (hm : ry_L Y' ≤ 81) (hro : rh_rok (ry_r Y') = true) (hS : S = av.reverse ++ (2, x) :: S1) (hS1 : rh_wd S1 ≤ 8) (hn : n' = rw_n w + mc ∧ (rw_g w = true ∨ mc = 0)) (hk1 : k.1 + mc ≤ k.2.2.1) (hk2 : k.2.1 + ms ≤ k.2.2.2) (hp : pc + 3 = pc') (K : rh_OKg w (rh_up w n' kd' rf') Y' n mc ms ((2, x) :: av) M (fun r M' => rh_At (rh_up w n' kd' rf') Y (n + 1) (k.1 + mc, k.2.1 + ms, k.2.2.1, k.2.2.2) Z pc' L (rh_res (ry_r Y') r S1) M')) : rh_At w Y (n + 1) k Z pc L S M := by
  subst hp
  subst hS
  intro p l e R s m args below meth c H locs ls C D
  obtain ⟨g1, g2, g3, g4, g5, g6⟩ := D
  refine rh_tight C (fun htg => ?_)
  have hts := C.2.2.2.2.2.2.2.1
  have hX := C.2.2.2.2.2.2.2.2.1
  have hok : ∀ z ∈ (2, x) :: av, rh_ok z := by
    intro z hz
    rcases List.mem_cons.mp hz with rfl | hz
    · trivial
    · exact g3 z (List.mem_append_left _ (List.mem_reverse.mpr hz))
  have hok1 : ∀ z ∈ S1, rh_ok z := fun z hz => g3 z (List.mem_append_right _ (List.mem_cons_of_mem _ hz))
  have hsum : (List.map (fun v => v.category) (S1.map (rh_a w))).sum ≤ 8 := by rw [rh_wd_sum]; exact hS1
  have he : (rh_ws w M)[r]? = some (rw_b w + r, .inr (ci, rh_fs w M r ci)) := by
    rw [rh_ws_get hr]
    simp only [rh_e, hkd]
  have hrecv := va_recv hX.1 g4 hc he
  have hb9 : rh_a w (2, x) = .ref (rw_b w + r) := by
    show va_rf (rh_r (rw_b w) x) = _
    rw [← hx, rh_r_n]
    rfl
  have hpre := rh_preS C g1 hok g4 g5 htg
  rw [List.map_cons, hb9] at hpre
  refine rh_after hro (va_runV (As := av.map (rh_a w)) (b := rw_b w + r) (C := q.1) ⟨C.1, C.2.1, C.2.2.1, C.2.2.2.2.2.1, hts⟩ (K l) (cwV av.length hts (lw_V hl him hse hin hcd) rfl rfl rfl hy ⟨?_, ?_⟩) ⟨rh_blind, hrecv, hpre⟩ rfl (List.length_map _) g6.1 ?_ (lv_room hsum) hd ⟨?_, ?_⟩) hn hk1 hk2 C g2 hok1 g5 g6
  · exact C.2.2.2.2.2.2.2.2.2.1
  · have := C.2.2.2.2.2.2.2.2.2.2.1
    show 8 + (ry_L Y' + 11) + 100 * n ≤ R.locals
    omega
  · simp [hb9]
  · exact Nat.le_trans hk1 C.2.2.2.2.2.2.2.2.2.2.2.1
  · exact Nat.le_trans hk2 C.2.2.2.2.2.2.2.2.2.2.2.2.1
theorem rh_callVN (pc' : Nat) {Y' : rhY} {idx mc ms n' : Nat} {kd' : Nat → rhK} {rf' : Nat → Nat → Option Nat} {av : List rhA} {host : String} {r ci : Nat} {x : Int} {q : vw_C} (hx : (r : Int) = x) (hr : r < rw_n w) (hkd : rw_kd w r = .inr ci) (hc : rh_cls[ci]? = some q) (hd : decode (ry_c Y) pc = .ok (.invokevirtual idx, 3)) (hl : Cond.methodLinkNest (ry_y Y).cls idx (ry_y Y') host ∈ rh_nst) (him : Cond.instanceMethod (ry_y Y') ∈ lw_all) (hse : Cond.selects q.1 (ry_y Y') (ry_y Y') ∈ lw_all) (hin : Cond.initialized (ry_y Y').cls ∈ lw_all) (hcd : Cond.code (ry_y Y') (ry_c Y') (ry_L Y') (ry_r Y') ∈ lw_all)
    (hy : (ry_y Y').cls ≠ "java/lang/invoke/MethodHandle" ∧ (ry_y Y').cls ≠ "java/lang/invoke/VarHandle" ∧ (parseMethodDescriptor (ry_y Y').desc).map (fun d => d.parameters.length) = some av.length) (hm : ry_L Y' ≤ 81) (hro : rh_rok (ry_r Y') = true) (hS : S = av.reverse ++ (2, x) :: S1) (hS1 : rh_wd S1 ≤ 8) (hn : n' = rw_n w + mc ∧ (rw_g w = true ∨ mc = 0)) (hk1 : k.1 + mc ≤ k.2.2.1) (hk2 : k.2.1 + ms ≤ k.2.2.2) (hp : pc + 3 = pc') (K : rh_OKg w (rh_up w n' kd' rf') Y' n mc ms ((2, x) :: av) M (fun r M' => rh_At (rh_up w n' kd' rf') Y (n + 1) (k.1 + mc, k.2.1 + ms, k.2.2.1, k.2.2.2) Z pc' L (rh_res (ry_r Y') r S1) M')) : rh_At w Y (n + 1) k Z pc L S M := by
  subst hp
  subst hS
  intro p l e R s m args below meth c H locs ls C D
  obtain ⟨g1, g2, g3, g4, g5, g6⟩ := D
  refine rh_tight C (fun htg => ?_)
  have hts := C.2.2.2.2.2.2.2.1
  have hX := C.2.2.2.2.2.2.2.2.1
  have hok : ∀ z ∈ (2, x) :: av, rh_ok z := by
    intro z hz
    rcases List.mem_cons.mp hz with rfl | hz
    · trivial
    · exact g3 z (List.mem_append_left _ (List.mem_reverse.mpr hz))
  have hok1 : ∀ z ∈ S1, rh_ok z := fun z hz => g3 z (List.mem_append_right _ (List.mem_cons_of_mem _ hz))
  have hsum : (List.map (fun v => v.category) (S1.map (rh_a w))).sum ≤ 8 := by rw [rh_wd_sum]; exact hS1
  have he : (rh_ws w M)[r]? = some (rw_b w + r, .inr (ci, rh_fs w M r ci)) := by
    rw [rh_ws_get hr]
    simp only [rh_e, hkd]
  have hrecv := va_recv hX.1 g4 hc he
  have hb9 : rh_a w (2, x) = .ref (rw_b w + r) := by
    show va_rf (rh_r (rw_b w) x) = _
    rw [← hx, rh_r_n]
    rfl
  have hpre := rh_preS C g1 hok g4 g5 htg
  rw [List.map_cons, hb9] at hpre
  refine rh_after hro (va_runVN (As := av.map (rh_a w)) (b := rw_b w + r) (C := q.1) ⟨C.1, C.2.1, C.2.2.1, C.2.2.2.2.2.1, hts⟩ (K l) ⟨va_cnB av.length hts (lw_meth hcd) rfl rfl rfl (hX.2.1 _ hl) (hts _ hin) hy ⟨?_, ?_⟩, hts _ him, hts _ hse⟩ ⟨rh_blind, hrecv, hpre⟩ rfl (List.length_map _) g6.1 ?_ (lv_room hsum) hd ⟨?_, ?_⟩) hn hk1 hk2 C g2 hok1 g5 g6
  · exact C.2.2.2.2.2.2.2.2.2.1
  · have := C.2.2.2.2.2.2.2.2.2.2.1
    show 8 + (ry_L Y' + 11) + 100 * n ≤ R.locals
    omega
  · simp [hb9]
  · exact Nat.le_trans hk1 C.2.2.2.2.2.2.2.2.2.2.2.1
  · exact Nat.le_trans hk2 C.2.2.2.2.2.2.2.2.2.2.2.2.1
/-- a call through an object, of an inherited method -/
theorem rh_callU (pc' : Nat) {Y' : rhY} {idx mc ms n' : Nat} {kd' : Nat → rhK} {rf' : Nat → Nat → Option Nat} {av : List rhA} {owner : String} {X : MethodName} {r ci : Nat} {x : Int} {q : vw_C} (hx : (r : Int) = x) (hr : r < rw_n w) (hkd : rw_kd w r = .inr ci) (hc : rh_cls[ci]? = some q) (hd : decode (ry_c Y) pc = .ok (.invokevirtual idx, 3)) (hl : Cond.methodLink (ry_y Y).cls idx X ∈ lw_all) (hsm : Cond.sameMethod X.cls owner X.name X.desc ∈ lw_all) (hse : Cond.selects q.1 X (ry_y Y') ∈ lw_all) (him : Cond.instanceMethod (ry_y Y') ∈ lw_all) (hin : Cond.initialized (ry_y Y').cls ∈ lw_all) (hcd : Cond.code (ry_y Y') (ry_c Y') (ry_L Y') (ry_r Y') ∈ lw_all)
    (hyx : ry_y Y' = ⟨owner, X.name, X.desc⟩) (hy : owner ≠ "java/lang/invoke/MethodHandle" ∧ owner ≠ "java/lang/invoke/VarHandle" ∧ (parseMethodDescriptor X.desc).map (fun d => d.parameters.length) = some av.length) (hm : ry_L Y' ≤ 81) (hro : rh_rok (ry_r Y') = true) (hS : S = av.reverse ++ (2, x) :: S1) (hS1 : rh_wd S1 ≤ 8) (hn : n' = rw_n w + mc ∧ (rw_g w = true ∨ mc = 0)) (hk1 : k.1 + mc ≤ k.2.2.1) (hk2 : k.2.1 + ms ≤ k.2.2.2) (hp : pc + 3 = pc') (K : rh_OKg w (rh_up w n' kd' rf') Y' n mc ms ((2, x) :: av) M (fun r M' => rh_At (rh_up w n' kd' rf') Y (n + 1) (k.1 + mc, k.2.1 + ms, k.2.2.1, k.2.2.2) Z pc' L (rh_res (ry_r Y') r S1) M')) : rh_At w Y (n + 1) k Z pc L S M := by
  subst hp
  subst hS
  intro p l e R s m args below meth c H locs ls C D
  obtain ⟨g1, g2, g3, g4, g5, g6⟩ := D
  refine rh_tight C (fun htg => ?_)
  have hts := C.2.2.2.2.2.2.2.1
  have hX := C.2.2.2.2.2.2.2.2.1
  have hok : ∀ z ∈ (2, x) :: av, rh_ok z := by
    intro z hz
    rcases List.mem_cons.mp hz with rfl | hz
    · trivial
    · exact g3 z (List.mem_append_left _ (List.mem_reverse.mpr hz))
  have hok1 : ∀ z ∈ S1, rh_ok z := fun z hz => g3 z (List.mem_append_right _ (List.mem_cons_of_mem _ hz))
  have hsum : (List.map (fun v => v.category) (S1.map (rh_a w))).sum ≤ 8 := by rw [rh_wd_sum]; exact hS1
  have he : (rh_ws w M)[r]? = some (rw_b w + r, .inr (ci, rh_fs w M r ci)) := by
    rw [rh_ws_get hr]
    simp only [rh_e, hkd]
  have hrecv := va_recv hX.1 g4 hc he
  have hb9 : rh_a w (2, x) = .ref (rw_b w + r) := by
    show va_rf (rh_r (rw_b w) x) = _
    rw [← hx, rh_r_n]
    rfl
  have hpre := rh_preS C g1 hok g4 g5 htg
  rw [List.map_cons, hb9] at hpre
  have hgood : GoodIn lw_all (va_wsU (ry_y Y).cls idx q.1 owner X (ry_y Y') (ws_ (ry_y Y') (ry_c Y') (ry_L Y') (ry_r Y'))) := by
    refine lw_app ?_ (lw_meth hcd)
    intro z hz
    simp only [List.mem_cons, List.not_mem_nil, or_false] at hz
    rcases hz with rfl | rfl | rfl | rfl | rfl
    · exact hl
    · exact hsm
    · exact hse
    · exact him
    · exact hin
  refine rh_after hro (va_runU (As := av.map (rh_a w)) (b := rw_b w + r) (C := q.1) ⟨C.1, C.2.1, C.2.2.1, C.2.2.2.2.2.1, hts⟩ (K l) (va_cwU av.length hts hgood rfl rfl rfl hyx hy ⟨?_, ?_⟩) ⟨rh_blind, hrecv, hpre⟩ rfl (List.length_map _) g6.1 ?_ (lv_room hsum) hd ⟨?_, ?_⟩) hn hk1 hk2 C g2 hok1 g5 g6
  · exact C.2.2.2.2.2.2.2.2.2.1
  · have := C.2.2.2.2.2.2.2.2.2.2.1
    show 8 + (ry_L Y' + 11) + 100 * n ≤ R.locals
    omega
  · simp [hb9]
  · exact Nat.le_trans hk1 C.2.2.2.2.2.2.2.2.2.2.2.1
  · exact Nat.le_trans hk2 C.2.2.2.2.2.2.2.2.2.2.2.2.1
/-- a constructor -/
theorem rh_callI (pc' : Nat) {Y' : rhY} {idx mc ms n' : Nat} {kd' : Nat → rhK} {rf' : Nat → Nat → Option Nat} {av : List rhA} {r ci : Nat} {x : Int} {q : vw_C} (hx : (r : Int) = x) (hr : r < rw_n w) (hkd : rw_kd w r = .inr ci) (hc : rh_cls[ci]? = some q) (hret : ry_r Y' = none) (hd : decode (ry_c Y) pc = .ok (.invokespecial idx, 3)) (hl : Cond.methodLink (ry_y Y).cls idx (ry_y Y') ∈ lw_all) (him : Cond.instanceMethod (ry_y Y') ∈ lw_all) (hin : Cond.initialized (ry_y Y').cls ∈ lw_all) (hcd : Cond.code (ry_y Y') (ry_c Y') (ry_L Y') (ry_r Y') ∈ lw_all)
    (hy1 : (ry_y Y').name = "<init>") (hy : (ry_y Y').cls ≠ "java/lang/invoke/MethodHandle" ∧ (ry_y Y').cls ≠ "java/lang/invoke/VarHandle" ∧ (parseMethodDescriptor (ry_y Y').desc).map (fun d => d.parameters.length) = some av.length) (hm : ry_L Y' ≤ 81) (hro : rh_rok (ry_r Y') = true) (hS : S = av.reverse ++ (2, x) :: S1) (hS1 : rh_wd S1 ≤ 8) (hn : n' = rw_n w + mc ∧ (rw_g w = true ∨ mc = 0)) (hk1 : k.1 + mc ≤ k.2.2.1) (hk2 : k.2.1 + ms ≤ k.2.2.2) (hp : pc + 3 = pc') (K : rh_OKg w (rh_up w n' kd' rf') Y' n mc ms ((2, x) :: av) M (fun r M' => rh_At (rh_up w n' kd' rf') Y (n + 1) (k.1 + mc, k.2.1 + ms, k.2.2.1, k.2.2.2) Z pc' L (rh_res (ry_r Y') r S1) M')) : rh_At w Y (n + 1) k Z pc L S M := by
  subst hp
  subst hS
  intro p l e R s m args below meth c H locs ls C D
  obtain ⟨g1, g2, g3, g4, g5, g6⟩ := D
  refine rh_tight C (fun htg => ?_)
  have hts := C.2.2.2.2.2.2.2.1
  have hX := C.2.2.2.2.2.2.2.2.1
  have hok : ∀ z ∈ (2, x) :: av, rh_ok z := by
    intro z hz
    rcases List.mem_cons.mp hz with rfl | hz
    · trivial
    · exact g3 z (List.mem_append_left _ (List.mem_reverse.mpr hz))
  have hok1 : ∀ z ∈ S1, rh_ok z := fun z hz => g3 z (List.mem_append_right _ (List.mem_cons_of_mem _ hz))
  have hsum : (List.map (fun v => v.category) (S1.map (rh_a w))).sum ≤ 8 := by rw [rh_wd_sum]; exact hS1
  have he : (rh_ws w M)[r]? = some (rw_b w + r, .inr (ci, rh_fs w M r ci)) := by
    rw [rh_ws_get hr]
    simp only [rh_e, hkd]
  have hrecv := va_recv hX.1 g4 hc he
  have hb9 : rh_a w (2, x) = .ref (rw_b w + r) := by
    show va_rf (rh_r (rw_b w) x) = _
    rw [← hx, rh_r_n]
    rfl
  have hpre := rh_preS C g1 hok g4 g5 htg
  rw [List.map_cons, hb9] at hpre
  obtain ⟨y9, c9, L9, r9⟩ := Y'
  have hret : r9 = none := hret
  subst hret
  have hm : L9 ≤ 81 := hm
  refine rh_after hro (va_runI (As := av.map (rh_a w)) (b := rw_b w + r) ⟨C.1, C.2.1, C.2.2.1, C.2.2.2.2.2.1, hts⟩ (K l) (cwI av.length hts (lw_meth hcd) rfl rfl rfl (hts _ hin) (hts _ hl) (hts _ him) hy1 hy ⟨?_, ?_⟩) ⟨rh_blind, hpre⟩ rfl (List.length_map _) g6.1 ?_ (lv_room hsum) hd ⟨?_, ?_⟩) hn hk1 hk2 C g2 hok1 g5 g6
  · exact C.2.2.2.2.2.2.2.2.2.1
  · have := C.2.2.2.2.2.2.2.2.2.2.1
    show 8 + (L9 + 11) + 100 * n ≤ R.locals
    omega
  · simp [hb9]
  · exact Nat.le_trans hk1 C.2.2.2.2.2.2.2.2.2.2.2.1
  · exact Nat.le_trans hk2 C.2.2.2.2.2.2.2.2.2.2.2.2.1
theorem rh_callIN (pc' : Nat) {Y' : rhY} {idx mc ms n' : Nat} {kd' : Nat → rhK} {rf' : Nat → Nat → Option Nat} {av : List rhA} {host : String} {r ci : Nat} {x : Int} {q : vw_C} (hx : (r : Int) = x) (hr : r < rw_n w) (hkd : rw_kd w r = .inr ci) (hc : rh_cls[ci]? = some q) (hret : ry_r Y' = none) (hd : decode (ry_c Y) pc = .ok (.invokespecial idx, 3)) (hl : Cond.methodLinkNest (ry_y Y).cls idx (ry_y Y') host ∈ rh_nst) (him : Cond.instanceMethod (ry_y Y') ∈ lw_all) (hin : Cond.initialized (ry_y Y').cls ∈ lw_all) (hcd : Cond.code (ry_y Y') (ry_c Y') (ry_L Y') (ry_r Y') ∈ lw_all)
    (hy1 : (ry_y Y').name = "<init>") (hy : (ry_y Y').cls ≠ "java/lang/invoke/MethodHandle" ∧ (ry_y Y').cls ≠ "java/lang/invoke/VarHandle" ∧ (parseMethodDescriptor (ry_y Y').desc).map (fun d => d.parameters.length) = some av.length) (hm : ry_L Y' ≤ 81) (hro : rh_rok (ry_r Y') = true) (hS : S = av.reverse ++ (2, x) :: S1) (hS1 : rh_wd S1 ≤ 8) (hn : n' = rw_n w + mc ∧ (rw_g w = true ∨ mc = 0)) (hk1 : k.1 + mc ≤ k.2.2.1) (hk2 : k.2.1 + ms ≤ k.2.2.2) (hp : pc + 3 = pc') (K : rh_OKg w (rh_up w n' kd' rf') Y' n mc ms ((2, x) :: av) M (fun r M' => rh_At (rh_up w n' kd' rf') Y (n + 1) (k.1 + mc, k.2.1 + ms, k.2.2.1, k.2.2.2) Z pc' L (rh_res (ry_r Y') r S1) M')) : rh_At w Y (n + 1) k Z pc L S M := by
  subst hp
  subst hS
  intro p l e R s m args below meth c H locs ls C D
  obtain ⟨g1, g2, g3, g4, g5, g6⟩ := D
  refine rh_tight C (fun htg => ?_)
  have hts := C.2.2.2.2.2.2.2.1
  have hX := C.2.2.2.2.2.2.2.2.1
  have hok : ∀ z ∈ (2, x) :: av, rh_ok z := by
    intro z hz
    rcases List.mem_cons.mp hz with rfl | hz
    · trivial
    · exact g3 z (List.mem_append_left _ (List.mem_reverse.mpr hz))
  have hok1 : ∀ z ∈ S1, rh_ok z := fun z hz => g3 z (List.mem_append_right _ (List.mem_cons_of_mem _ hz))
  have hsum : (List.map (fun v => v.category) (S1.map (rh_a w))).sum ≤ 8 := by rw [rh_wd_sum]; exact hS1
  have he : (rh_ws w M)[r]? = some (rw_b w + r, .inr (ci, rh_fs w M r ci)) := by
    rw [rh_ws_get hr]
    simp only [rh_e, hkd]
  have hrecv := va_recv hX.1 g4 hc he
  have hb9 : rh_a w (2, x) = .ref (rw_b w + r) := by
    show va_rf (rh_r (rw_b w) x) = _
    rw [← hx, rh_r_n]
    rfl
  have hpre := rh_preS C g1 hok g4 g5 htg
  rw [List.map_cons, hb9] at hpre
  obtain ⟨y9, c9, L9, r9⟩ := Y'
  have hret : r9 = none := hret
  subst hret
  have hm : L9 ≤ 81 := hm
  refine rh_after hro (va_runIN (As := av.map (rh_a w)) (b := rw_b w + r) ⟨C.1, C.2.1, C.2.2.1, C.2.2.2.2.2.1, hts⟩ (K l) ⟨va_cnB av.length hts (lw_meth hcd) rfl rfl rfl (hX.2.1 _ hl) (hts _ hin) hy ⟨?_, ?_⟩, hy1, hts _ him⟩ ⟨rh_blind, hpre⟩ rfl (List.length_map _) g6.1 ?_ (lv_room hsum) hd ⟨?_, ?_⟩) hn hk1 hk2 C g2 hok1 g5 g6
  · exact C.2.2.2.2.2.2.2.2.2.1
  · have := C.2.2.2.2.2.2.2.2.2.2.1
    show 8 + (L9 + 11) + 100 * n ≤ R.locals
    omega
  · simp [hb9]
  · exact Nat.le_trans hk1 C.2.2.2.2.2.2.2.2.2.2.2.1
  · exact Nat.le_trans hk2 C.2.2.2.2.2.2.2.2.2.2.2.2.1
end RhCalls
