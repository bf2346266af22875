/-! ===== the fault is caught; what a method comes to, where it may throw ===== -/
section RhCatch
variable {w w2 : rhW} {Y Y' Y2 : rhY} {n h h' h2 : Nat} {Q : rhQ} {pc pc' pc2 : Nat} {L L' L2 : rhL} {S S' S1 S2 av : List rhA} {M M' M0 M2 : rhM}
theorem rh_goCold {e : Env} {s : State} {f : JFrame} {a : Addr} {x : ExceptionTableEntry} {t : List ExceptionTableEntry} {c : ClassId} {cell : Cell} {vm' : Vm} {Qh : Handler → Pre} {E : CtlPost} {d : Bool} {acts : List Action}
    (hx : covers x f.pc = true) (h0 : x.catchType ≠ 0) (hg : (Jvm.resolveClass f.method.cls x.catchType).Gives e.toSetting s.vm (.ok c) vm') (hsz : vm'.classes.size ≤ s.vm.classes.size) (hcell : s.heap[a]? = some cell) (hobj : ∀ k, cell.vm ≠ .statics k)
    (hk : ∃ k, vm'.classes[cell.cls]? = some k) (hc : ∃ k, vm'.classes[c]? = some k) (hfit : vm'.assignable cell.cls c = true) :
    wp (findHandler.go f a (x :: t)) Qh E e d acts s ↔ Qh (.found x.handlerPc) d acts (s.setVm vm') := by
  obtain ⟨ha, ht⟩ := hg.op (op := VmOp.resolveClass f.method.cls x.catchType) rfl
  simp only [covers] at hx
  simp [findHandler.go, hx, h0, ha, ht, hsz, hcell, hobj, hk, hc, hfit, VmOp.dirties, VmOp.acts]
theorem rh_stepCold {e : Env} {s : State} {a : Addr} {f : JFrame} {r : List Frame} {pc : Nat} {vm' : Vm} (hfind : ∀ (Qh : Handler → Pre) (E : CtlPost) (d : Bool) (acts : List Action), wp (findHandler f a) Qh E e d acts s ↔ Qh (.found pc) d acts (s.setVm vm')) :
    (stepThrowing e s a (.java f :: r)).Is ((s.setVm vm').setFrames (.java { f with pc := pc, stack := [.ref a] } :: r)) [] := by
  simp only [stepThrowing, searchFrame, vmDo]
  generalize hr : Sem.go _ e false [] s = res
  obtain ⟨as, rfl, ha⟩ := Sem.eq_ok_of hr (a := Handler.found pc) (s' := s.setVm vm') (acts' := []) (by simp [hfind])
  exact ⟨rfl, ha⟩
theorem rh_caught {tb : Tables} {e : Env} {s target : State} {g : JFrame} {c : Code} {below : List Frame} {a : Addr} {pc : Nat} {vm' : Vm} (h : At s g.method c below) (hfind : ∀ (Qh : Handler → Pre) (E : CtlPost) (d : Bool) (acts : List Action), wp (findHandler g a) Qh E e d acts ((s.setTop g).pushFrame (.throwing a)) ↔ Qh (.found pc) d acts (((s.setTop g).pushFrame (.throwing a)).setVm vm'))
    (hrest : Steps tb e below ((s.setVm vm').setTop { g with pc := pc, stack := [.ref a] }) target) : Steps tb e below ((s.setTop g).pushFrame (.throwing a)) target := by
  obtain ⟨hgo, hw⟩ := h.throwing a
  refine Steps.head hgo hw ?_
  rw [stepThread_throwing (frames_entered h.top _), (rh_stepCold (s := (s.setTop g).pushFrame (.throwing a)) hfind).1]
  obtain ⟨g₀, hg⟩ := Option.isSome_iff_exists.mp h.top
  obtain ⟨r, hr⟩ := State.topJava?_eq_some.mp hg
  have hr' : (s.setVm vm').frames = .java g₀ :: r := hr
  rw [State.setTop_of_frames _ hr'] at hrest
  have e1 : (((s.setTop g).pushFrame (.throwing a)).setVm vm').setFrames (.java { g with pc := pc, stack := [.ref a] } :: s.frames.tail) = (s.setVm vm').setFrames (.java { g with pc := pc, stack := [.ref a] } :: r) := by
    rw [State.pushFrame, State.setTop_of_frames _ hr, State.setFrames_setFrames, hr]
    show ((s.setFrames _).setFrames _).setVm vm' = (s.setFrames _).setVm vm'
    rw [State.setFrames_setFrames]
    rfl
  rw [e1]
  exact hrest
/-- the callee throws the fault, and the caller's first handler takes it -/
theorem rh_thrC {X : rhM → Prop} {hh hr : List (Nat × Nat × Nat × Nat)} {a1 a2 hpc ct ci : Nat} {q : vw_C} (I : rh_iv w Y Y' pc S av S1) (hsub : ∀ z ∈ av, z ∈ S) (hw : rh_wd S1 ≤ 8) (kW : Cond.codeWith (ry_y Y) (ry_c Y) (ry_L Y) (ry_r Y) hh ∈ lw_all) (h0 : hh = (a1, a2, hpc, ct) :: hr) (hcv : a1 ≤ pc ∧ pc < a2) (hct : ct ≠ 0)
    (hlk : Cond.classLink (ry_y Y).cls ct q.1 ∈ lw_all) (ho : rh_ob w 3 ci) (hc : rh_cls[ci]? = some q) (kk : rh_kT Y') (K : rh_OKt w Y' n av M X) (hX : ∀ M', X M' → rh_AT w Y (n + 1) Q hpc L [(2, 3)] M') : rh_AT w Y (n + 1) Q pc L S M := by
  intro p l e R s m args below meth c H locs ls C D
  refine rh_tight C (fun htg => ?_)
  intro T hT St
  obtain ⟨vm₁, mk, ig, len, St1, hnm, hdc, hst⟩ := I _ p l e R s m args below meth c H locs ls L M T C D hT St
  obtain ⟨g1, g2, g3, g4, g5, g6⟩ := D
  have hts := C.2.2.2.2.2.2.2.1
  have hXX := C.2.2.2.2.2.2.2.2.1
  have hown := C.2.2.2.2.2.1
  have hsum : (List.map (fun v => v.category) (S1.map (rh_a w))).sum ≤ 8 := by rw [rh_wd_sum]; exact hw
  have hpre := rh_preS C g1 (fun z hz => g3 z (hsub z hz)) g4 g5 htg (T.setVm vm₁) hT St1.warmed
  obtain ⟨T', LL, M9, X', hLL, m1, m2, m3, m4, m5, hs2⟩ := rh_thr1 St1 hts K kk.1 kk.2.1 (g := F0 m pc ls (S1.map (rh_a w))) C.2.2.2.2.2.2.2.2.2.1 (by have := C.2.2.2.2.2.2.2.2.2.2.1; have := kk.2.2; omega) rfl (g6.1.trans C.2.2.1.symm) (by rw [C.2.1]; exact hdc) (lv_room hsum) hnm hpre
  -- the handler's class
  have hpl : e.platform.magicAccessors = ({} : Platform).magicAccessors := by rw [X'.admits.platform]
  obtain ⟨cc, hfcc, hcl⟩ := Cond.classLink_spec hown (hts _ hlk) e.platform hpl
  obtain ⟨hg₁, hwarm₁, hready₁⟩ := State.classEntry (e := e) X'.warmed hcl
  have hsz : (T'.vm.noted m.cls ct (.cls cc)).classes.size ≤ T'.vm.classes.size := by no_record
  generalize T'.vm.noted m.cls ct (.cls cc) = vm2 at hg₁ hwarm₁ hready₁ hsz
  have he : (rh_ws w M9)[(3 : Int).toNat]? = some (rw_b w + (3 : Int).toNat, .inr (ci, rh_fs w M9 (3 : Int).toNat ci)) := by
    rw [rh_ws_get ho.2.1]
    simp only [rh_e, ho.2.2]
  obtain ⟨cellB, hcB, hoB, hclB⟩ := va_recv hXX.1 m2 hc he
  cases hfcc.symm.trans hclB
  obtain ⟨kC, hkC⟩ := Vm.classAt_of_findClass hfcc
  obtain ⟨k₁, hk₁, -⟩ := hwarm₁.alike.2.2 _ _ hkC
  -- the method's table
  obtain ⟨m9, meth9, c9, hn9, hm9, hc9, -, -, htab, -, -, -⟩ := Cond.codeWith_spec (hts _ kW)
  cases (C.2.2.2.2.2.2.2.2.2.2.2.2.2.2.2.2.2).symm.trans hn9
  cases X'.method.symm.trans hm9
  cases X'.code.symm.trans hc9
  rw [h0] at htab
  obtain ⟨x, xs, hx, hx1, hxs⟩ : ∃ x xs, c.exceptionTable.toList = x :: xs ∧ (x.startPc, x.endPc, x.handlerPc, x.catchType) = (a1, a2, hpc, ct) ∧ True := by
    cases hl : c.exceptionTable.toList with
    | nil => rw [hl] at htab; cases htab
    | cons y ys => rw [hl] at htab; exact ⟨y, ys, rfl, (List.cons.inj htab).1, trivial⟩
  have hx2 : x.startPc = a1 ∧ x.endPc = a2 ∧ x.handlerPc = hpc ∧ x.catchType = ct := by
    simp only [Prod.mk.injEq] at hx1
    exact hx1
  have hcov : covers x pc = true := by
    simp only [covers, hx2.1, hx2.2.1, Bool.and_eq_true, decide_eq_true_eq]
    exact hcv
  have hvm : ((T'.setTop (F0 m pc ls (S1.map (rh_a w)))).pushFrame (.throwing (rw_b w + 3))).vm = T'.vm := Stand.throwing_vm _ _ _
  have hhp : ((T'.setTop (F0 m pc ls (S1.map (rh_a w)))).pushFrame (.throwing (rw_b w + 3))).heap = T'.heap := Stand.throwing_heap _ _ _
  have hfind : ∀ (Qh : Handler → Pre) (E : CtlPost) (d : Bool) (acts : List Action), wp (findHandler (F0 m pc ls (S1.map (rh_a w))) (rw_b w + 3)) Qh E e d acts ((T'.setTop (F0 m pc ls (S1.map (rh_a w)))).pushFrame (.throwing (rw_b w + 3))) ↔ Qh (.found hpc) d acts (((T'.setTop (F0 m pc ls (S1.map (rh_a w)))).pushFrame (.throwing (rw_b w + 3))).setVm vm2) := by
    intro Qh E d acts
    rw [W.findHandler_eq (meth := meth) (code := c) (by rw [hvm]; exact X'.method') X'.code, hx]
    rw [rh_goCold (c := cellB.cls) (cell := cellB) (vm' := vm2) hcov (by rw [hx2.2.2.2]; exact hct) (by rw [hx2.2.2.2, hvm]; exact hg₁) (by rw [hvm]; exact hsz) (by rw [hhp]; exact hcB) (fun k hk => by rw [hk] at hoB; cases hoB) ⟨k₁, hk₁⟩ ⟨k₁, hk₁⟩ (by show vm2.assignableAux (255 + 1) cellB.cls cellB.cls = true; rw [Vm.assignableAux, Bool.or_eq_true, beq_iff_eq]; exact Or.inl rfl), hx2.2.2.1]
  have X2 := X'.noted hwarm₁
  have hS9 : va_S (rh_A w) s.heap T'.heap (locs ++ LL) := by
    refine ⟨?_, ?_, ?_⟩
    · have h1 : T.heap.size ≤ T'.heap.size := m3
      have h2 := g5.1
      rw [← hT] at h2
      exact Nat.le_trans h2 h1
    · intro q q1 q2
      have h2 := g5.1
      rw [← hT] at h2
      have h3 := m4 q (Nat.lt_of_lt_of_le q1 h2) q2
      have h4 := g5.2.1 q q1 q2
      rw [← hT] at h4
      exact h3.trans h4
    · intro q hq
      rcases List.mem_append.mp hq with h | h
      · exact g5.2.2 q h
      · exact hLL q h
  have KK := hX M9 m5 p l e R s m args below meth c T'.heap (locs ++ LL) ls C ⟨m1, g2, (fun z hz => by rw [List.mem_singleton] at hz; rw [hz]; trivial), m2, hS9, g6⟩
  obtain ⟨t, b1, b2⟩ := KK (T'.setVm vm2) rfl X2
  refine ⟨t, hst _ (hs2.trans ?_), b2⟩
  refine rh_caught (by exact X'.here) hfind ?_
  have hst3 : ([(2, 3)] : List rhA).map (rh_a w) = [.ref (rw_b w + 3)] := by
    show [rh_a w (2, 3)] = _
    rw [rh_a3]
  rw [hst3] at b1
  exact b1
/-- a place leads to a place, whatever comes -/
def eG (w : rhW) (Y : rhY) (h pc : Nat) (L : rhL) (S : List rhA) (M : rhM) (pc' : Nat) (L' : rhL) (S' : List rhA) (M' : rhM) : Prop := ∀ (n : Nat) (Q : rhQ), rh_AT w Y (n + h) Q pc' L' S' M' → rh_AT w Y (n + h) Q pc L S M
theorem eG.toS {pc' : Nat} (H : eG w Y h pc L S M pc' L' S' M') : eS w Y h pc L S M pc' L' S' M' := fun _ _ K n => H n _ (K n)
theorem eG.cs {idx na : Nat} {r0 : Int} (hcs : rh_csr w Y Y' idx na) (hh : h' < h) (hd : decode (ry_c Y) pc = .ok (.invokestatic idx, 3)) (hna : na = av.length) (hw : rh_wd S1 ≤ 8) (hS : S = av.reverse ++ S1) (E : eC w Y' h' av M r0 M0) : eG w Y h pc L S M (pc + 3) L (rh_res (ry_r Y') r0 S1) M0 := by
  intro n Q K
  subst hS
  have hn : n + h = (n + (h - 1 - h') + h') + 1 := by omega
  rw [hn] at K ⊢
  refine hcs _ _ pc L S1 av M hd hna hw (rh_OK.mono (E _) (fun r1 M1 _ _ hz => ?_))
  rw [hz.1, hz.2]
  exact K
theorem eG.cv {idx na ci : Nat} {x r0 : Int} (hcv : rh_cvr w Y Y' idx na ci) (ho : rh_ob w x ci) (hh : h' < h) (hd : decode (ry_c Y) pc = .ok (.invokevirtual idx, 3)) (hna : na = av.length) (hw : rh_wd S1 ≤ 8) (hS : S = av.reverse ++ (2, x) :: S1) (E : eC w Y' h' ((2, x) :: av) M r0 M0) : eG w Y h pc L S M (pc + 3) L (rh_res (ry_r Y') r0 S1) M0 := by
  intro n Q K
  subst hS
  have hn : n + h = (n + (h - 1 - h') + h') + 1 := by omega
  rw [hn] at K ⊢
  refine hcv _ _ pc L S1 av x M ho hd hna hw (rh_OK.mono (E _) (fun r1 M1 _ _ hz => ?_))
  rw [hz.1, hz.2]
  exact K
theorem eG.ci {r0 : Int} (I : rh_iv w Y Y' pc S av S1) (hsub : ∀ z ∈ av, z ∈ S) (hS1 : ∀ z ∈ S1, z ∈ S) (hw : rh_wd S1 ≤ 8) (hd3 : ∃ i, decode (ry_c Y) pc = .ok (i, 3)) (hro : rh_rok (ry_r Y') = true) (kk : rh_kT Y') (hh : h' < h) (E : eC w Y' h' av M r0 M0) : eG w Y h pc L S M (pc + 3) L (rh_res (ry_r Y') r0 S1) M0 := by
  intro n Q K
  have hn : n + h = (n + (h - 1 - h') + h') + 1 := by omega
  rw [hn] at K ⊢
  refine rh_cI I hsub hS1 hw hd3 hro kk (rh_OK.mono (E _) (fun r1 M1 _ _ hz => ?_))
  rw [hz.1, hz.2]
  exact K
theorem eG.fx {x : Int} (j : Nat) (hj : S[j]? = some (3, x)) (hr : rI x) (hS : S.set j (0, x) = S') : eG w Y h pc L S M pc L S' M := fun _ _ K => rh_fx j hj hr hS K
theorem eG.fxl {x : Int} (j : Nat) (hj : S[j]? = some (4, x)) (hr : rL x) (hS : S.set j (1, x) = S') : eG w Y h pc L S M pc L S' M := fun _ _ K => rh_fxl j hj hr hS K
/-- the callee throws: out of the caller; into its handler -/
theorem tA.ci (I : rh_iv w Y Y' pc S av S1) (hsub : ∀ z ∈ av, z ∈ S) (hw : rh_wd S1 ≤ 8) (kY : Cond.code (ry_y Y) (ry_c Y) (ry_L Y) (ry_r Y) ∈ lw_all) (kk : rh_kT Y') (hh : h' < h) (E : tC w Y' h' av M M') : tA w Y h pc L S M M' := by
  intro n
  have hn : n + h = (n + (h - 1 - h') + h') + 1 := by omega
  rw [hn]
  exact rh_thrO I hsub hw kY kk (E _) (fun _ h => h)
theorem eG.ct {hh hr : List (Nat × Nat × Nat × Nat)} {a1 a2 hpc ct ci : Nat} {q : vw_C} (I : rh_iv w Y Y' pc S av S1) (hsub : ∀ z ∈ av, z ∈ S) (hw : rh_wd S1 ≤ 8) (kW : Cond.codeWith (ry_y Y) (ry_c Y) (ry_L Y) (ry_r Y) hh ∈ lw_all) (h0 : hh = (a1, a2, hpc, ct) :: hr) (hcv : a1 ≤ pc ∧ pc < a2) (hct : ct ≠ 0)
    (hlk : Cond.classLink (ry_y Y).cls ct q.1 ∈ lw_all) (ho : rh_ob w 3 ci) (hc : rh_cls[ci]? = some q) (kk : rh_kT Y') (hl : h' < h) (E : tC w Y' h' av M M') : eG w Y h pc L S M hpc L [(2, 3)] M' := by
  intro n Q K
  have hn : n + h = (n + (h - 1 - h') + h') + 1 := by omega
  rw [hn] at K ⊢
  exact rh_thrC I hsub hw kW h0 hcv hct hlk ho hc kk (E _) (fun M1 hz => by rw [hz]; exact K)
/-- what a method comes to from a place: it returns (some), or throws (none) -/
def eO (w : rhW) (Y : rhY) (h pc : Nat) (L : rhL) (S : List rhA) (M : rhM) (o : Option Int) (M' : rhM) : Prop := match o with
  | some r => eA w Y h pc L S M r M'
  | none => tA w Y h pc L S M M'
def cO (w : rhW) (Y : rhY) (h : Nat) (av : List rhA) (M : rhM) (o : Option Int) (M' : rhM) : Prop := match o with
  | some r => eC w Y h av M r M'
  | none => tC w Y h av M M'
theorem eO.g {o : Option Int} {M1 : rhM} (H : ∀ (n : Nat) (Q : rhQ), rh_AT w Y (n + h) Q pc' L' S' M' → rh_AT w Y (n + h) Q pc L S M) (K : eO w Y h pc' L' S' M' o M1) : eO w Y h pc L S M o M1 := by
  cases o with
  | some r => exact fun n => H n _ (K n)
  | none => exact fun n => H n _ (K n)
def rx1 (w : rhW) (Y : rhY) (h pc : Nat) (L : rhL) (S : List rhA) (M : rhM) (P : Option Int → rhM → Prop) : Prop := ∃ (o : Option Int) (M' : rhM), eO w Y h pc L S M o M' ∧ P o M'
def rx2 (w : rhW) (Y : rhY) (h pc : Nat) (L : rhL) (S : List rhA) (M : rhM) (w2 : rhW) (Y2 : rhY) (h2 pc2 : Nat) (L2 : rhL) (S2 : List rhA) (M2 : rhM) (P : Option Int → rhM → Int → rhM → Prop) : Prop :=
  ∃ (o : Option Int) (M' : rhM) (r2 : Int) (M2' : rhM), eO w Y h pc L S M o M' ∧ eA w2 Y2 h2 pc2 L2 S2 M2 r2 M2' ∧ P o M' r2 M2'
theorem rx1.of {P : Option Int → rhM → Prop} (H : rhLf w Y h pc L S M (fun pc L S M => rx1 w Y h pc L S M P) (fun r M' => P (some r) M')) : rx1 w Y h pc L S M P := by
  rcases H with ⟨p, l, s, m, ⟨o, M', a, b⟩, c⟩ | ⟨r, M', a, c⟩
  · exact ⟨o, M', eO.g c a, b⟩
  · exact ⟨some r, M', fun n => c n _ ⟨rfl, rfl⟩, a⟩
theorem rx2.l {P : Option Int → rhM → Int → rhM → Prop} (H : rhLf w Y h pc L S M (fun pc L S M => rx2 w Y h pc L S M w2 Y2 h2 pc2 L2 S2 M2 P) (fun r M' => rh1 w2 Y2 h2 pc2 L2 S2 M2 (P (some r) M'))) : rx2 w Y h pc L S M w2 Y2 h2 pc2 L2 S2 M2 P := by
  rcases H with ⟨p, l, s, m, ⟨o, M', r2, M2', a, b, d⟩, c⟩ | ⟨r, M', ⟨r2, M2', a, b⟩, c⟩
  · exact ⟨o, M', r2, M2', eO.g c a, b, d⟩
  · exact ⟨some r, M', r2, M2', fun n => c n _ ⟨rfl, rfl⟩, a, b⟩
theorem rx2.r {P : Option Int → rhM → Int → rhM → Prop} (H : rhLf w2 Y2 h2 pc2 L2 S2 M2 (fun pc2 L2 S2 M2 => rx2 w Y h pc L S M w2 Y2 h2 pc2 L2 S2 M2 P) (fun r2 M2' => rx1 w Y h pc L S M (fun o M' => P o M' r2 M2'))) : rx2 w Y h pc L S M w2 Y2 h2 pc2 L2 S2 M2 P := by
  rcases H with ⟨p, l, s, m, ⟨o, M', r2, M2', a, b, d⟩, c⟩ | ⟨r2, M2', ⟨o, M', a, b⟩, c⟩
  · exact ⟨o, M', r2, M2', a, fun n => c n _ (b n), d⟩
  · exact ⟨o, M', r2, M2', a, fun n => c n _ ⟨rfl, rfl⟩, b⟩
theorem rx1.g {P : Option Int → rhM → Prop} (E : eG w Y h pc L S M pc' L' S' M') (H : rx1 w Y h pc' L' S' M' P) : rx1 w Y h pc L S M P := by
  obtain ⟨o, M1, a, b⟩ := H
  exact ⟨o, M1, eO.g E a, b⟩
theorem rx2.gl {P : Option Int → rhM → Int → rhM → Prop} (E : eG w Y h pc L S M pc' L' S' M') (H : rx2 w Y h pc' L' S' M' w2 Y2 h2 pc2 L2 S2 M2 P) : rx2 w Y h pc L S M w2 Y2 h2 pc2 L2 S2 M2 P := by
  obtain ⟨o, M1, r2, M20, a, b, c⟩ := H
  exact ⟨o, M1, r2, M20, eO.g E a, b, c⟩
theorem rx2.sr {P : Option Int → rhM → Int → rhM → Prop} (E : eS w2 Y2 h2 pc2 L2 S2 M2 pc' L' S' M') (H : rx2 w Y h pc L S M w2 Y2 h2 pc' L' S' M' P) : rx2 w Y h pc L S M w2 Y2 h2 pc2 L2 S2 M2 P := by
  obtain ⟨o, M1, r2, M20, a, b, c⟩ := H
  exact ⟨o, M1, r2, M20, a, E _ _ b, c⟩
theorem rx1.t {P : Option Int → rhM → Prop} (E : tA w Y h pc L S M M') (H : P none M') : rx1 w Y h pc L S M P := ⟨none, M', E, H⟩
theorem rx2.t {P : Option Int → rhM → Int → rhM → Prop} (E : tA w Y h pc L S M M') (H : rh1 w2 Y2 h2 pc2 L2 S2 M2 (P none M')) : rx2 w Y h pc L S M w2 Y2 h2 pc2 L2 S2 M2 P := by
  obtain ⟨r2, M20, a, b⟩ := H
  exact ⟨none, M', r2, M20, E, a, b⟩
theorem tA.throw (hd : decode (ry_c Y) pc = .ok (.athrow, 1)) (hcd : Cond.code (ry_y Y) (ry_c Y) (ry_L Y) (ry_r Y) ∈ lw_all) : tA w Y h pc L ((2, 3) :: S) M M := fun _ => rh_athrow hd hcd rfl
def rCx (w : rhW) (Y : rhY) (h : Nat) (av : List rhA) (M : rhM) (P : Option Int → rhM → Prop) : Prop := ∃ (o : Option Int) (M' : rhM), cO w Y h av M o M' ∧ P o M'
theorem cO.of {o : Option Int} (hy : plainName (ry_y Y).cls = true) (hn : rh_wd av ≤ ry_L Y) (E : eO w Y h 0 (rh_lo 0 av) [] M o M') : cO w Y h av M o M' := by
  cases o with
  | some r => exact eC.of hy hn E
  | none => exact tC.of hy hn E
theorem rCx.of {P : Option Int → rhM → Prop} (hy : plainName (ry_y Y).cls = true) (hn : rh_wd av ≤ ry_L Y) (H : rx1 w Y h 0 (rh_lo 0 av) [] M P) : rCx w Y h av M P := by
  obtain ⟨o, M1, a, b⟩ := H
  exact ⟨o, M1, cO.of hy hn a, b⟩
/-- two of them, side by side: the first may throw -/
def rCy (w : rhW) (Y : rhY) (h : Nat) (av : List rhA) (M : rhM) (w2 : rhW) (Y2 : rhY) (h2 : Nat) (av2 : List rhA) (M2 : rhM) (P : Option Int → rhM → Int → rhM → Prop) : Prop :=
  ∃ (o : Option Int) (M' : rhM) (r2 : Int) (M2' : rhM), cO w Y h av M o M' ∧ eC w2 Y2 h2 av2 M2 r2 M2' ∧ P o M' r2 M2'
theorem rCy.of {av2 : List rhA} {P : Option Int → rhM → Int → rhM → Prop} (hy : plainName (ry_y Y).cls = true) (hn : rh_wd av ≤ ry_L Y) (hy2 : plainName (ry_y Y2).cls = true) (hn2 : rh_wd av2 ≤ ry_L Y2) (H : rx2 w Y h 0 (rh_lo 0 av) [] M w2 Y2 h2 0 (rh_lo 0 av2) [] M2 P) : rCy w Y h av M w2 Y2 h2 av2 M2 P := by
  obtain ⟨o, M1, r2, M20, a, b, c⟩ := H
  exact ⟨o, M1, r2, M20, cO.of hy hn a, eC.of hy2 hn2 b, c⟩
end RhCatch
