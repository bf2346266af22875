/-! ===== faults that fly: the fault is cell 3 of the house ===== -/
section RhThrow
variable {w : rhW} {Y Y' : rhY} {n h h' : Nat} {Q : rhQ} {pc : Nat} {L : rhL} {S S1 av : List rhA} {M M' : rhM}
theorem rh_a3 (w : rhW) : rh_a w (2, 3) = .ref (rw_b w + 3) := by
  show va_rf (rh_r (rw_b w) ((3 : Nat) : Int)) = _
  rw [rh_r_n]
  rfl
/-- a method without handlers -/
theorem rh_noh {k : Nat × Nat × Nat × Nat} {p : Program} {l : Launch} {e : Env} {R : Room} {s : State} {m : MethodId} {args : Array Value} {below : List Frame} {meth : Method} {c : Code} {T : State} {locs : List Loc} {cells slots : Nat} (C : rh_C w Y n k p R s m args meth c) (X : Stand p l e R s m args below meth c T locs cells slots) (hcd : Cond.code (ry_y Y) (ry_c Y) (ry_L Y) (ry_r Y) ∈ lw_all) (pc : Nat) : ∀ x ∈ c.exceptionTable.toList, covers x pc = false := by
  have hts := C.2.2.2.2.2.2.2.1
  obtain ⟨meth', c', hm', hc', -, -, -, -, he', -⟩ := Cond.code_spec (C.2.2.2.2.2.2.2.2.2.2.2.2.2.2.2.2.2) (hts _ hcd)
  cases X.method.symm.trans hm'
  cases X.code.symm.trans hc'
  have h0 : c.exceptionTable.size = 0 := by simpa [Array.isEmpty] using he'
  have h1 : c.exceptionTable.toList = [] := List.eq_nil_of_length_eq_zero (by simpa using h0)
  intro x hx
  rw [h1] at hx
  cases hx
/-- athrow, out of the method -/
theorem rh_athrow (hd : decode (ry_c Y) pc = .ok (.athrow, 1)) (hcd : Cond.code (ry_y Y) (ry_c Y) (ry_L Y) (ry_r Y) ∈ lw_all) (hQ : Q.2 M) : rh_AT w Y n Q pc L ((2, 3) :: S) M := by
  intro p l e R s m args below meth c H locs ls C D T hT X
  obtain ⟨g1, g2, g3, g4, g5, g6⟩ := D
  obtain ⟨st, r1, r2, r3, r4⟩ := X.athrowLeaves C.1 (g := F0 m pc ls (((2, 3) :: S).map (rh_a w))) rfl rfl rfl (rh_noh C X hcd pc) (a := rw_b w + 3) (rest := S.map (rh_a w)) (by show rh_a w (2, 3) :: _ = _; rw [rh_a3]) (by rw [C.2.1]; exact hd) C.2.2.2.2.1
  refine ⟨_, st, Or.inr ⟨r1, r2, ⟨M, g1, ?_, g5.F hT, hQ⟩, r3, locs, r4, g5.2.2⟩⟩
  show rh_H w M T.heap
  rw [hT]
  exact g4
/-- the contract of a method that throws the fault -/
def rh_OKt (w : rhW) (Y : rhY) (n : Nat) (av : List rhA) (M : rhM) (X : rhM → Prop) : Prop :=
  ∀ l : Launch, MetFree l (ry_y Y) (headSpec (ws_ (ry_y Y) (ry_c Y) (ry_L Y) (ry_r Y)) (rh_rm n 0 0)) (rh_Pc w av M) (fun _ _ _ _ _ => True) (fun _ st o t => o = .threw (rw_b w + 3) ∧ (∃ M' : rhM, rh_wm w M' ∧ rh_H w M' t.heap ∧ va_F (rh_A w) st t ∧ X M') ∧ st.WarmedH t.vm ∧ ∃ L, st.sameButNew ({ t with vm := st.vm } : State) L 0 0 ∧ ∀ q ∈ L, rh_A w q.base)
def tA (w : rhW) (Y : rhY) (h pc : Nat) (L : rhL) (S : List rhA) (M : rhM) (M' : rhM) : Prop := ∀ n : Nat, rh_AT w Y (n + h) (fun _ _ => False, fun M1 => M1 = M') pc L S M
def tC (w : rhW) (Y : rhY) (h : Nat) (av : List rhA) (M M' : rhM) : Prop := ∀ n : Nat, rh_OKt w Y (n + h) av M (fun M1 => M1 = M')
theorem rh_bodyT {X : rhM → Prop} (hy : plainName (ry_y Y).cls = true) (hn : rh_wd av ≤ ry_L Y) (K : rh_AT w Y n (fun _ _ => False, X) 0 (rh_lo 0 av) [] M) : rh_OKt w Y n av M X := by
  intro l
  refine MetFree.of_bodyS (code := ry_c Y) (maxLocals := ry_L Y) (ret := ry_r Y) hy ?_ ?_
  · intro args s m h hn
    obtain ⟨meth, c, h1, h2, h3, h4, h5, h6, -, -⟩ := Cond.code_spec hn (atoms_spec (ws := ws_ (ry_y Y) (ry_c Y) (ry_L Y) (ry_r Y)) h _ List.mem_cons_self)
    exact ⟨meth, c, h1, h2, h3, h4, h5, h6⟩
  · intro p e s m args below meth c s₁ B hml hv _
    have hh0 : s₁.heap = s.heap := by rw [B.state]; rfl
    obtain ⟨rfl, hX, hsz, hwm, hok, hH, htg⟩ := hv
    have hts := atoms_spec (ws := ws_ (ry_y Y) (ry_c Y) (ry_L Y) (ry_r Y)) B.pre
    have hts : ∀ x ∈ lw_all, x.before _ s = true := fun x h => hts x (List.mem_cons_of_mem _ h)
    have hown : s.vm.findClass (ry_y Y).cls = some m.cls := findClass_of_methodNamed B.named
    have hnm : meth.name = (ry_y Y).name := (name_of_methodNamed B.named B.method).1
    have hl := lv_entry (av.map (rh_a w)) (n := ry_L Y) (by rw [rh_wd_eq]; exact hn)
    have hst := Stand.of_body B
    have KK : W p l e (headSpec (ws_ (ry_y Y) (ry_c Y) (ry_L Y) (ry_r Y)) (rh_rm n 0 0)).room s m (av.map (rh_a w)).toArray below meth c s.heap [] 0 0 (rh_Zq w Y (fun _ _ => False, X) below (av.map (rh_a w)).toArray s) (entryFrame m (av.map (rh_a w)).toArray (ry_L Y)) := by
      rw [lg_entry_eq]
      generalize (lg_sl (av.map (rh_a w)) ++ List.replicate (ry_L Y - (lg_sl (av.map (rh_a w))).length) Slot.unset).toArray = ls0 at hl ⊢
      rw [← rh_lo_eq w av 0] at hl
      refine K p l e (headSpec (ws_ (ry_y Y) (ry_c Y) (ry_L Y) (ry_r Y)) (rh_rm n 0 0)).room s m _ below meth c s.heap [] ls0 ⟨B.exec, B.bytes, hml, B.returns, B.notSynchronized, hown, hnm, hts, hX, Nat.le_refl _, Nat.le_refl _, Nat.le_refl _, Nat.le_refl _, Nat.zero_le _, Nat.zero_le _, hsz, htg, B.named⟩
        ⟨hwm, ?_, (fun z hz => absurd hz List.not_mem_nil), hH, va_S.rf, hl⟩
      have : ∀ (av : List rhA) (i : Nat), (∀ z ∈ av, rh_ok z) → ∀ z ∈ rh_lo i av, rh_ok z.2 := by
        intro av
        induction av with
        | nil => intro i _ z hz; cases hz
        | cons a t ih =>
          intro i h z hz
          rcases List.mem_cons.mp hz with rfl | hz
          · exact h _ List.mem_cons_self
          · exact ih _ (fun y hy => h y (List.mem_cons_of_mem _ hy)) z hz
      exact this av 0 hok
    obtain ⟨t, a1, b⟩ := KK s₁ hh0 hst
    rcases b with ⟨o, -, -, ⟨r, M9, -, -, -, -, -, hf⟩, -⟩ | ⟨b1, b2, b3, b4, b5⟩
    · exact hf.elim
    · exact ⟨t, .threw (rw_b w + 3), a1, b1, b2, rfl, b3, b4, b5⟩
theorem tC.of (hy : plainName (ry_y Y).cls = true) (hn : rh_wd av ≤ ry_L Y) (E : tA w Y h 0 (rh_lo 0 av) [] M M') : tC w Y h av M M' := fun n => rh_bodyT hy hn (E n)
/-- the callee throws: back in the caller, with the note on top -/
theorem rh_thr1 {p : Program} {l : Launch} {e : Env} {R : Room} {s : State} {m : MethodId} {args : Array Value} {below : List Frame} {meth : Method} {c : Code} {T : State} {locs : List Loc} {g : JFrame} {ig : Instr} {len : Nat} {mk : MethodId} {X : rhM → Prop}
    (St : Stand p l e R s m args below meth c T locs 0 0) (hts : ∀ x ∈ lw_all, x.before args s = true) (K : rh_OKt w Y' n av M X) (hcd : Cond.code (ry_y Y') (ry_c Y') (ry_L Y') (ry_r Y') ∈ lw_all) (hin : Cond.initialized (ry_y Y').cls ∈ lw_all)
    (hfr : n + 1 ≤ R.frames) (hlo : 8 + (ry_L Y' + 11) + 100 * n ≤ R.locals) (hg : g.method = m) (hsize : g.locals.size = c.maxLocals) (hdg : decode c.code g.pc = .ok (ig, len)) (hW : 2 * g.monitorRoom + (g.stack.map fun v => v.category).sum ≤ 8) (hn : T.methodNamed? (ry_y Y') = some mk) (hpre : rh_Pc w av M (av.map (rh_a w)).toArray T) :
    ∃ (T' : State) (LL : List Loc) (M' : rhM), Stand p l e R s m args below meth c T' (locs ++ LL) 0 0 ∧ (∀ q ∈ LL, rh_A w q.base) ∧ rh_wm w M' ∧ rh_H w M' T'.heap ∧ T.heap.size ≤ T'.heap.size ∧ (∀ q : Nat, q < T.heap.size → ¬ rh_A w q → T'.heap[q]? = T.heap[q]?) ∧ X M' ∧ Steps p.tables e below (doInvoke e (T.setTop g) [] mk (av.map (rh_a w)).toArray).1 ((T'.setTop g).pushFrame (.throwing (rw_b w + 3))) := by
  have hws := pay_in hts (lw_meth hcd)
  have hco : (Cond.code (ry_y Y') (ry_c Y') (ry_L Y') (ry_r Y')).before (av.map (rh_a w)).toArray T = true := hws _ List.mem_cons_self _ _ St.warmed
  have hini : (Cond.initialized (ry_y Y').cls).before (av.map (rh_a w)).toArray T = true := word_at St.warmed (Or.inl (by first | rfl | simp [Cond.onTables, Cond.keeps, Cond.steady])) (hts _ hin)
  obtain ⟨methY, cY, hmY, hcY, -, hlY, -, -, -, -⟩ := Cond.code_spec hn hco
  obtain ⟨kY, hkY, -⟩ := className_of_methodNamed hn
  have hinitY : kY.init = .initialized := Cond.initialized_spec (findClass_of_methodNamed hn) hkY hini
  have h : At T g.method c below := by rw [hg]; exact St.here
  have happ : (headSpec (ws_ (ry_y Y') (ry_c Y') (ry_L Y') (ry_r Y')) (rh_rm n 0 0)).appliesLoose (ry_y Y') e.platform (T.calling g mk (av.map (rh_a w)).toArray) = true :=
    Spec.appliesLoose_calling (g := g) h hdg hn hkY hinitY
      (St.room_calling (g := g) (R' := rh_rm n 0 0) hsize hmY hcY hfr (by rw [hlY]; show _ + _ + 100 * n ≤ _; omega) (Nat.zero_le _) (Nat.zero_le _)) (atoms_intro fun x hx => hws x hx _ _ St.warmed)
  obtain ⟨mid, hmid⟩ := h.above
  have hfr2 : (T.setTop g).frames = (.java g :: mid) ++ below := by rw [State.frames_setTop' g h.top, hmid]; rfl
  obtain ⟨o, s₂, hsteps, -, hend, hq⟩ := Steps.callFree (K l) p St.admits St.cas St.clock (acts := []) hfr2 happ (rh_blind _ _ g mk hpre) trivial
  rw [State.frames_setTop' g h.top, St.tail] at hend
  obtain ⟨rfl, ⟨M9, m1, m2, m3, m4⟩, hW₂, LL, hsame, hLL⟩ := hq
  obtain ⟨T', X', -, -, ht⟩ := St.outOfThrown hg hend hW₂ hsame
  have hheap : s₂.heap = T'.heap := by rw [ht]; exact Stand.throwing_heap T' g _
  refine ⟨T', LL, M9, X', hLL, m1, by rw [← hheap]; exact m2, by rw [← hheap]; exact m3.1, fun q q1 q2 => by rw [← hheap]; exact m3.2 q q1 q2, m4, ?_⟩
  rw [← ht]
  exact hsteps
/-- an instruction that calls Y' with av, and keeps S1 -/
def rh_iv (w : rhW) (Y Y' : rhY) (pc : Nat) (S av S1 : List rhA) : Prop := ∀ (n : Nat) (p : Program) (l : Launch) (e : Env) (R : Room) (s : State) (m : MethodId) (args : Array Value) (below : List Frame) (meth : Method) (c : Code) (H : Heap) (locs : List Loc) (ls : Array Slot) (L : rhL) (M : rhM) (T : State),
  rh_C w Y n (0, 0, 0, 0) p R s m args meth c → rh_D w Y L S M s H locs ls → T.heap = H → Stand p l e R s m args below meth c T locs 0 0 → ∃ (vm₁ : Vm) (mk : MethodId) (ig : Instr) (len : Nat), Stand p l e R s m args below meth c (T.setVm vm₁) locs 0 0 ∧ (T.setVm vm₁).methodNamed? (ry_y Y') = some mk ∧ decode (ry_c Y) pc = .ok (ig, len) ∧
    ∀ target, Steps p.tables e below (doInvoke e ((T.setVm vm₁).setTop (F0 m pc ls (S1.map (rh_a w)))) [] mk (av.map (rh_a w)).toArray).1 target → Steps p.tables e below (T.setTop (F0 m pc ls (S.map (rh_a w)))) target
/-- what a method's call asks of the tables -/
def rh_kT (Y : rhY) : Prop := Cond.code (ry_y Y) (ry_c Y) (ry_L Y) (ry_r Y) ∈ lw_all ∧ Cond.initialized (ry_y Y).cls ∈ lw_all ∧ ry_L Y ≤ 81
/-- the callee throws, and the caller catches nothing -/
theorem rh_thrO {X : rhM → Prop} (I : rh_iv w Y Y' pc S av S1) (hsub : ∀ z ∈ av, z ∈ S) (hw : rh_wd S1 ≤ 8) (kY : Cond.code (ry_y Y) (ry_c Y) (ry_L Y) (ry_r Y) ∈ lw_all) (kk : rh_kT Y') (K : rh_OKt w Y' n av M X) (hX : ∀ M', X M' → Q.2 M') : rh_AT w Y (n + 1) Q pc L S M := by
  intro p l e R s m args below meth c H locs ls C D
  refine rh_tight C (fun htg => ?_)
  intro T hT St
  obtain ⟨vm₁, mk, ig, len, St1, hnm, hdc, hst⟩ := I _ p l e R s m args below meth c H locs ls L M T C D hT St
  obtain ⟨g1, g2, g3, g4, g5, g6⟩ := D
  have hsum : (List.map (fun v => v.category) (S1.map (rh_a w))).sum ≤ 8 := by rw [rh_wd_sum]; exact hw
  have hpre := rh_preS C g1 (fun z hz => g3 z (hsub z hz)) g4 g5 htg (T.setVm vm₁) hT St1.warmed
  obtain ⟨T', LL, M9, X', hLL, m1, m2, m3, m4, m5, hs2⟩ := rh_thr1 St1 C.2.2.2.2.2.2.2.1 K kk.1 kk.2.1 (g := F0 m pc ls (S1.map (rh_a w))) C.2.2.2.2.2.2.2.2.2.1 (by have := C.2.2.2.2.2.2.2.2.2.2.1; have := kk.2.2; omega) rfl (g6.1.trans C.2.2.1.symm) (by rw [C.2.1]; exact hdc) (lv_room hsum) hnm hpre
  obtain ⟨l1, l2, l3, l4, l5⟩ := X'.leaveThrown (rw_b w + 3) (g := F0 m pc ls (S1.map (rh_a w))) rfl rfl rfl (rh_noh C X' kY pc) C.2.2.2.2.1
  refine ⟨_, hst _ (hs2.trans l1), Or.inr ⟨l2, l3, ⟨M9, m1, m2, ⟨?_, ?_⟩, hX _ m5⟩, l4, locs ++ LL, l5, ?_⟩⟩
  · have h1 : T.heap.size ≤ T'.heap.size := m3
    have h2 := g5.1
    rw [← hT] at h2
    exact Nat.le_trans h2 h1
  · intro q q1 q2
    have h2 := g5.1
    rw [← hT] at h2
    have h3 := m4 q (Nat.lt_of_lt_of_le q1 h2) q2
    have h4 := g5.2.1 q q1 q2
    rw [← hT] at h4
    exact h3.trans h4
  · intro q hq
    rcases List.mem_append.mp hq with h | h
    · exact g5.2.2 q h
    · exact hLL q h
/-- calls: of a method of the object's own class; of one that is chosen by the object's class; of a static one -/
theorem rh_iv.v {idx na ci : Nat} {x : Int} {q : vw_C} (ho : rh_ob w x ci) (hd : decode (ry_c Y) pc = .ok (.invokevirtual idx, 3)) (hc : rh_cls[ci]? = some q) (hl : Cond.methodLink (ry_y Y).cls idx (ry_y Y') ∈ lw_all ∨ ∃ host, Cond.methodLinkNest (ry_y Y).cls idx (ry_y Y') host ∈ rh_nst) (kk : rh_kV Y' q.1 na) (hna : na = av.length) : rh_iv w Y Y' pc (av.reverse ++ (2, x) :: S1) ((2, x) :: av) S1 := by
  subst hna
  intro n p l e R s m args below meth c H locs ls L M T C D hT X
  obtain ⟨g1, g2, g3, g4, g5, g6⟩ := D
  have hts := C.2.2.2.2.2.2.2.1
  have hX := C.2.2.2.2.2.2.2.2.1
  obtain ⟨k1, k2, k3, k4, ⟨k5, k6, k7, k8⟩, k9, k10⟩ := kk
  have he : (rh_ws w M)[x.toNat]? = some (rw_b w + x.toNat, .inr (ci, rh_fs w M x.toNat ci)) := by
    rw [rh_ws_get ho.2.1]
    simp only [rh_e, ho.2.2]
  obtain ⟨cellB, hcB, hoB, hclB⟩ := va_recv hX.1 g4 hc he
  have hb9 : rh_a w (2, x) = .ref (rw_b w + x.toNat) := by
    show va_rf (rh_r (rw_b w) x) = _
    unfold rh_r
    rw [if_neg (by have := ho.1; omega)]
    rfl
  obtain ⟨mk, methM, hnamed, hmethM, hstM, habM⟩ := Cond.instanceMethod_spec (hts _ k1)
  obtain ⟨methM', cM, hmethM', -, -, -, -, -, -, hsigM⟩ := Cond.code_spec hnamed (hts _ k4)
  cases hmethM.symm.trans hmethM'
  obtain ⟨c2, r2, m2, q1, q2, q3, q4, kP, hkP, hkPi⟩ := Cond.selects_spec (hts _ k2)
  cases hclB.symm.trans q1
  cases (State.methodFound?_of_named hnamed ⟨k6, k7⟩).symm.trans q2
  cases hnamed.symm.trans q3
  have hselP : selectMethod e.platform s.vm cellB.cls mk = .method mk := by rw [Launch.admits_selectMethod X.admits]; exact q4
  have hlen : (av.map (rh_a w)).length = methM.sig.parameters.length := by
    rw [hsigM] at k8
    rw [List.length_map]
    exact (Option.some.inj k8).symm
  have hstack : (F0 m pc ls ((av.reverse ++ (2, x) :: S1).map (rh_a w))).stack = (av.map (rh_a w)).reverse ++ .ref (rw_b w + x.toNat) :: S1.map (rh_a w) := by
    show (av.reverse ++ (2, x) :: S1).map (rh_a w) = _
    rw [List.map_append, List.map_cons, hb9, List.map_reverse]
  have hmap : ((2, x) :: av).map (rh_a w) = .ref (rw_b w + x.toNat) :: av.map (rh_a w) := by rw [List.map_cons, hb9]
  rw [hmap]
  rcases hl with hl | ⟨host, hl⟩
  · obtain ⟨vm₁, X₁, hstep₁⟩ := X.invokevirtual C.1 C.2.2.2.2.2.1 (hts _ hl) hnamed hmethM hstM hkP hkPi ⟨k6, k7⟩ (a := rw_b w + x.toNat) (cell := cellB) (by rw [hT]; exact hcB)
      (fun z h => by rw [h] at hoB; cases hoB) hselP hmethM habM hkP hkPi (g := F0 m pc ls ((av.reverse ++ (2, x) :: S1).map (rh_a w))) rfl (argsL := av.map (rh_a w)) (rest := S1.map (rh_a w)) hlen hstack (by rw [C.2.1]; exact hd)
    exact ⟨vm₁, mk, _, _, X₁, X₁.named hnamed, hd, fun target h => hstep₁ _ fun acts => by rw [doInvoke_state]; rw [doInvoke_state] at h; exact h⟩
  · obtain ⟨vm₁, X₁, hstep₁⟩ := X.invokevirtualNest C.1 C.2.2.2.2.2.1 (va_Nw.use rfl (hX.2.1 _ hl)) hnamed hmethM hstM hkP hkPi ⟨k6, k7⟩ (a := rw_b w + x.toNat) (cell := cellB) (by rw [hT]; exact hcB)
      (fun z h => by rw [h] at hoB; cases hoB) hselP hmethM habM hkP hkPi (g := F0 m pc ls ((av.reverse ++ (2, x) :: S1).map (rh_a w))) rfl (argsL := av.map (rh_a w)) (rest := S1.map (rh_a w)) hlen hstack (by rw [C.2.1]; exact hd)
    exact ⟨vm₁, mk, _, _, X₁, X₁.named hnamed, hd, fun target h => hstep₁ _ fun acts => by rw [doInvoke_state]; rw [doInvoke_state] at h; exact h⟩
/-- what the tables say of a method that a class chooses for another's name -/
def rh_kX (Y : rhY) (C owner : String) (X : MethodName) (na : Nat) : Prop := Cond.sameMethod X.cls owner X.name X.desc ∈ lw_all ∧ Cond.declares ⟨owner, X.name, X.desc⟩ ∈ rh_nst ∧ Cond.selects C X (ry_y Y) ∈ lw_all ∧ Cond.instanceMethod (ry_y Y) ∈ lw_all ∧ (owner ≠ "java/lang/invoke/MethodHandle" ∧ owner ≠ "java/lang/invoke/VarHandle" ∧ (parseMethodDescriptor X.desc).map (fun d => d.parameters.length) = some na)
theorem rh_iv.u {idx na ci : Nat} {x : Int} {q : vw_C} {owner : String} {Xm : MethodName} (ho : rh_ob w x ci) (hd : decode (ry_c Y) pc = .ok (.invokevirtual idx, 3)) (hc : rh_cls[ci]? = some q) (hl : Cond.methodLink (ry_y Y).cls idx Xm ∈ lw_all) (kk : rh_kX Y' q.1 owner Xm na) (hna : na = av.length) : rh_iv w Y Y' pc (av.reverse ++ (2, x) :: S1) ((2, x) :: av) S1 := by
  subst hna
  intro n p l e R s m args below meth c H locs ls L M T C D hT X
  obtain ⟨g1, g2, g3, g4, g5, g6⟩ := D
  have hts := C.2.2.2.2.2.2.2.1
  have hX := C.2.2.2.2.2.2.2.2.1
  obtain ⟨k1, k2, k3, k4, k5, k6, k7⟩ := kk
  have he : (rh_ws w M)[x.toNat]? = some (rw_b w + x.toNat, .inr (ci, rh_fs w M x.toNat ci)) := by
    rw [rh_ws_get ho.2.1]
    simp only [rh_e, ho.2.2]
  obtain ⟨cellB, hcB, hoB, hclB⟩ := va_recv hX.1 g4 hc he
  have hb9 : rh_a w (2, x) = .ref (rw_b w + x.toNat) := by
    show va_rf (rh_r (rw_b w) x) = _
    unfold rh_r
    rw [if_neg (by have := ho.1; omega)]
    rfl
  obtain ⟨r0, r, hn, hrm, hstR, hsigR⟩ := Cond.declares_spec (va_Nw.use (A := args) rfl (hX.2.1 _ k2))
  obtain ⟨cn, ck, r1, hcn, hck, hni, hf, hn1⟩ := Cond.sameMethod_found (hts _ k1)
  cases hn.symm.trans hn1
  obtain ⟨mk, methM, hnamed, hmethM, -, habM⟩ := Cond.instanceMethod_spec (hts _ k4)
  obtain ⟨c2, r2, m2, q1, q2, q3, q4, kP, hkP, hkPi⟩ := Cond.selects_spec (hts _ k3)
  cases hclB.symm.trans q1
  cases hf.symm.trans q2
  cases hnamed.symm.trans q3
  have hselP : selectMethod e.platform s.vm cellB.cls r0 = .method mk := by rw [Launch.admits_selectMethod X.admits]; exact q4
  have hlen : (av.map (rh_a w)).length = r.sig.parameters.length := by
    rw [show parseMethodDescriptor Xm.desc = some r.sig from hsigR] at k7
    rw [List.length_map]
    exact (Option.some.inj k7).symm
  have hstack : (F0 m pc ls ((av.reverse ++ (2, x) :: S1).map (rh_a w))).stack = (av.map (rh_a w)).reverse ++ .ref (rw_b w + x.toNat) :: S1.map (rh_a w) := by
    show (av.reverse ++ (2, x) :: S1).map (rh_a w) = _
    rw [List.map_append, List.map_cons, hb9, List.map_reverse]
  have hmap : ((2, x) :: av).map (rh_a w) = .ref (rw_b w + x.toNat) :: av.map (rh_a w) := by rw [List.map_cons, hb9]
  rw [hmap]
  obtain ⟨vm₁, X₁, hstep₁⟩ := X.invokevirtualUp C.1 C.2.2.2.2.2.1 (hts _ hl) (hts _ k1) ⟨k5, k6⟩ hn hrm hstR (a := rw_b w + x.toNat) (cell := cellB) (by rw [hT]; exact hcB)
    (fun z h => by rw [h] at hoB; cases hoB) hselP hmethM habM hkP hkPi (g := F0 m pc ls ((av.reverse ++ (2, x) :: S1).map (rh_a w))) rfl (argsL := av.map (rh_a w)) (rest := S1.map (rh_a w)) hlen hstack (by rw [C.2.1]; exact hd)
  exact ⟨vm₁, mk, _, _, X₁, X₁.named hnamed, hd, fun target h => hstep₁ _ fun acts => by rw [doInvoke_state]; rw [doInvoke_state] at h; exact h⟩
theorem rh_iv.s {idx na : Nat} (hd : decode (ry_c Y) pc = .ok (.invokestatic idx, 3)) (hl : Cond.methodLink (ry_y Y).cls idx (ry_y Y') ∈ lw_all ∨ ∃ host, Cond.methodLinkNest (ry_y Y).cls idx (ry_y Y') host ∈ rh_nst) (kk : rh_kS Y' na) (hna : na = av.length) : rh_iv w Y Y' pc (av.reverse ++ S1) av S1 := by
  subst hna
  intro n p l e R s m args below meth c H locs ls L M T C D hT X
  have hts := C.2.2.2.2.2.2.2.1
  have hX := C.2.2.2.2.2.2.2.2.1
  obtain ⟨k1, k2, k3, ⟨k4, k5, k6⟩, k7, k8⟩ := kk
  obtain ⟨mk, hnamed⟩ := Cond.code_named (hts _ k3)
  obtain ⟨methM, cM, hmethM, -, -, -, -, -, -, hsigM⟩ := Cond.code_spec hnamed (hts _ k3)
  have hstatic : methM.isStatic = true := Cond.static_spec hnamed hmethM (hts _ k1)
  obtain ⟨kP, hkP, -⟩ := className_of_methodNamed hnamed
  have hinitP : kP.init = .initialized := Cond.initialized_spec (findClass_of_methodNamed hnamed) hkP (hts _ k2)
  have hlen : (av.map (rh_a w)).length = methM.sig.parameters.length := by
    rw [hsigM] at k6
    rw [List.length_map]
    exact (Option.some.inj k6).symm
  have hstack : (F0 m pc ls ((av.reverse ++ S1).map (rh_a w))).stack = (av.map (rh_a w)).reverse ++ S1.map (rh_a w) := by
    show (av.reverse ++ S1).map (rh_a w) = _
    rw [List.map_append, List.map_reverse]
  rcases hl with hl | ⟨host, hl⟩
  · obtain ⟨vm₁, X₁, hstep₁⟩ := X.invokestatic C.1 C.2.2.2.2.2.1 (hts _ hl) hnamed hmethM hstatic hkP hinitP ⟨k4, k5⟩ (g := F0 m pc ls ((av.reverse ++ S1).map (rh_a w))) rfl (argsL := av.map (rh_a w)) (rest := S1.map (rh_a w)) hlen hstack (by rw [C.2.1]; exact hd)
    exact ⟨vm₁, mk, _, _, X₁, X₁.named hnamed, hd, fun target h => hstep₁ _ fun acts => by rw [doInvoke_state]; rw [doInvoke_state] at h; exact h⟩
  · obtain ⟨vm₁, X₁, hstep₁⟩ := X.invokestaticNest C.1 C.2.2.2.2.2.1 (va_Nw.use rfl (hX.2.1 _ hl)) hnamed hmethM hstatic hkP hinitP ⟨k4, k5⟩ (g := F0 m pc ls ((av.reverse ++ S1).map (rh_a w))) rfl (argsL := av.map (rh_a w)) (rest := S1.map (rh_a w)) hlen hstack (by rw [C.2.1]; exact hd)
    exact ⟨vm₁, mk, _, _, X₁, X₁.named hnamed, hd, fun target h => hstep₁ _ fun acts => by rw [doInvoke_state]; rw [doInvoke_state] at h; exact h⟩
/-- the callee returns -/
theorem rh_cI (I : rh_iv w Y Y' pc S av S1) (hsub : ∀ z ∈ av, z ∈ S) (hS1 : ∀ z ∈ S1, z ∈ S) (hw : rh_wd S1 ≤ 8) (hd3 : ∃ i, decode (ry_c Y) pc = .ok (i, 3)) (hro : rh_rok (ry_r Y') = true) (kk : rh_kT Y') (K : rh_OK w Y' n av M (fun r M' => rh_AT w Y (n + 1) Q (pc + 3) L (rh_res (ry_r Y') r S1) M')) : rh_AT w Y (n + 1) Q pc L S M := by
  intro p l e R s m args below meth c H locs ls C D
  refine rh_tight C (fun htg => ?_)
  have hD := D
  obtain ⟨g1, g2, g3, g4, g5, g6⟩ := D
  have hsum : (List.map (fun v => v.category) (S1.map (rh_a w))).sum ≤ 8 := by rw [rh_wd_sum]; exact hw
  have hts := C.2.2.2.2.2.2.2.1
  refine rh_after (n' := rw_n w) (kd' := rw_kd w) (rf' := rw_rf w) (mc := 0) (ms := 0) hro (a := (av.map (rh_a w)).toArray) ?_ ⟨rfl, .inr rfl⟩ (Nat.le_refl _) (Nat.le_refl _) C g2 (fun z hz => g3 z (hS1 z hz)) g5 g6
  have hK : Back l R p e below s args (ry_y Y') 3 8 (PreOf R 0 0 (rh_Pc w av M)) (PostOf _ 0 0 (rh_A w)) := back_of (bytes := ry_c Y') (maxL := ry_L Y') (ret := ry_r Y') (K l) rh_blind rfl rfl C.2.2.2.2.2.2.2.2.2.1 (by have := C.2.2.2.2.2.2.2.2.2.2.1; have := kk.2.2; show 8 + (ry_L Y' + 11) + 100 * n ≤ R.locals; omega) (pay_in hts (lw_meth kk.1)) List.mem_cons_self (fun a' U hW => word_at hW (Or.inl (by first | rfl | simp [Cond.onTables, Cond.keeps, Cond.steady])) (hts _ kk.2.1))
  intro T hT St
  obtain ⟨vm₁, mk, ig, len, St1, hnm, hdc, hst⟩ := I _ p l e R s m args below meth c H locs ls L M T C hD hT St
  obtain ⟨i3, hd3⟩ := hd3
  have hpre := rh_preS C g1 (fun z hz => g3 z (hsub z hz)) g4 g5 htg (T.setVm vm₁) hT St1.warmed
  obtain ⟨v, ⟨U', l2, c2, s2⟩, X', ⟨g', mk', t, LL, e1, e2, hq, h1, hL, h2, h3⟩, st⟩ := hK m meth c ⟨T.setVm vm₁, locs, 0, 0⟩ (F0 m pc ls (S1.map (rh_a w))) i3 mk _ St1 rfl (g6.1.trans C.2.2.1.symm) (by rw [C.2.1]; exact hd3) (lv_room hsum) hnm ⟨Nat.zero_le _, Nat.zero_le _, hpre⟩
  dsimp only [Pt.U, Pt.locs, Pt.cells, Pt.slots] at X' e1 e2 h1 h2 h3 st
  subst h1; subst h2; subst h3
  exact ⟨v, (T.setVm vm₁).calling g' mk' (av.map (rh_a w)).toArray, t, U', LL, hT, X', hL, e1, e2, hq, fun tg hh => hst _ (st.trans hh)⟩
end RhThrow
