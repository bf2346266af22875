/-! ===== calls of overriding methods ===== -/
section RhVirt
theorem rh_three {α : Type} {P : α → Prop} {a b c : α} (h : P a) (h2 : P b) (h3 : P c) : ∀ x ∈ [a, b, c], P x := by
  intro x hx
  rcases List.mem_cons.mp hx with rfl | hx
  · exact h
  · exact rh_two h2 h3 x hx
variable {w : rhW} {Y Y' : rhY} {n : Nat} {k : Nat × Nat × Nat × Nat} {Z : List Frame → Array Value → State → State → Prop} {pc : Nat} {L : rhL} {S S1 : List rhA} {M : rhM}
theorem rh_callO (pc' : Nat) {Y' : rhY} {idx mc ms n' : Nat} {kd' : Nat → rhK} {rf' : Nat → Nat → Option Nat} {av : List rhA} {owner : String} {X : MethodName} {r ci : Nat} {x : Int} {q : vw_C} (hx : (r : Int) = x) (hr : r < rw_n w) (hkd : rw_kd w r = .inr ci) (hc : rh_cls[ci]? = some q) (hd : decode (ry_c Y) pc = .ok (.invokevirtual idx, 3)) (hl : Cond.methodLink (ry_y Y).cls idx X ∈ lw_all) (hsm : Cond.sameMethod X.cls owner X.name X.desc ∈ lw_all) (hse : Cond.selects q.1 X (ry_y Y') ∈ lw_all) (him : Cond.instanceMethod (ry_y Y') ∈ lw_all) (hin : Cond.initialized (ry_y Y').cls ∈ lw_all) (hcd : Cond.code (ry_y Y') (ry_c Y') (ry_L Y') (ry_r Y') ∈ lw_all)
    {b0 : ByteArray} {m0 : Nat} {r0 : Option FieldType} (hi0 : Cond.instanceMethod ⟨owner, X.name, X.desc⟩ ∈ lw_all) (h0 : Cond.code ⟨owner, X.name, X.desc⟩ b0 m0 r0 ∈ lw_all) (hy : owner ≠ "java/lang/invoke/MethodHandle" ∧ owner ≠ "java/lang/invoke/VarHandle" ∧ (parseMethodDescriptor X.desc).map (fun d => d.parameters.length) = some av.length) (hm : ry_L Y' ≤ 81) (hro : rh_rok (ry_r Y') = true) (hS : S = av.reverse ++ (2, x) :: S1) (hS1 : rh_wd S1 ≤ 8) (hn : n' = rw_n w + mc ∧ (rw_g w = true ∨ mc = 0)) (hk1 : k.1 + mc ≤ k.2.2.1) (hk2 : k.2.1 + ms ≤ k.2.2.2) (hp : pc + 3 = pc') (K : rh_OKg w (rh_up w n' kd' rf') Y' n mc ms ((2, x) :: av) M (fun r M' => rh_At (rh_up w n' kd' rf') Y (n + 1) (k.1 + mc, k.2.1 + ms, k.2.2.1, k.2.2.2) Z pc' L (rh_res (ry_r Y') r S1) M')) : rh_At w Y (n + 1) k Z pc L S M := by
  subst hp
  subst hS
  intro p l e R s m args below meth c H locs ls C D
  obtain ⟨g1, g2, g3, g4, g5, g6⟩ := D
  refine rh_tight C (fun htg => ?_)
  have hts := C.2.2.2.2.2.2.2.1
  have hX := C.2.2.2.2.2.2.2.2.1
  have hok : ∀ z ∈ (2, x) :: av, rh_ok z := by
    intro z hz
    rcases List.mem_cons.mp hz with rfl | hz
    · trivial
    · exact g3 z (List.mem_append_left _ (List.mem_reverse.mpr hz))
  have hok1 : ∀ z ∈ S1, rh_ok z := fun z hz => g3 z (List.mem_append_right _ (List.mem_cons_of_mem _ hz))
  have hsum : (List.map (fun v => v.category) (S1.map (rh_a w))).sum ≤ 8 := by rw [rh_wd_sum]; exact hS1
  have he : (rh_ws w M)[r]? = some (rw_b w + r, .inr (ci, rh_fs w M r ci)) := by
    rw [rh_ws_get hr]
    simp only [rh_e, hkd]
  have hrecv := va_recv hX.1 g4 hc he
  have hb9 : rh_a w (2, x) = .ref (rw_b w + r) := by
    show va_rf (rh_r (rw_b w) x) = _
    rw [← hx, rh_r_n]
    rfl
  have hpre := rh_preS C g1 hok g4 g5 htg
  rw [List.map_cons, hb9] at hpre
  have hgood : GoodIn lw_all (va_wsO (ry_y Y).cls idx q.1 owner X (ry_y Y') (ws_ (ry_y Y') (ry_c Y') (ry_L Y') (ry_r Y'))) := by
    refine lw_app ?_ (lw_meth hcd)
    intro z hz
    simp only [List.mem_cons, List.not_mem_nil, or_false] at hz
    rcases hz with rfl | rfl | rfl | rfl | rfl | rfl
    · exact hl
    · exact hsm
    · exact hi0
    · exact hse
    · exact him
    · exact hin
  refine rh_after hro (va_runU (As := av.map (rh_a w)) (b := rw_b w + r) (C := q.1) ⟨C.1, C.2.1, C.2.2.1, C.2.2.2.2.2.1, hts⟩ (K l) (va_cwO av.length hts hgood rfl rfl rfl h0 hy ⟨?_, ?_⟩) ⟨rh_blind, hrecv, hpre⟩ rfl (List.length_map _) g6.1 ?_ (lv_room hsum) hd ⟨?_, ?_⟩) hn hk1 hk2 C g2 hok1 g5 g6
  · exact C.2.2.2.2.2.2.2.2.2.1
  · have := C.2.2.2.2.2.2.2.2.2.2.1
    show 8 + (ry_L Y' + 11) + 100 * n ≤ R.locals
    omega
  · simp [hb9]
  · exact Nat.le_trans hk1 C.2.2.2.2.2.2.2.2.2.2.2.1
  · exact Nat.le_trans hk2 C.2.2.2.2.2.2.2.2.2.2.2.2.1
theorem rh_callA (pc' : Nat) {Y' : rhY} {idx mc ms n' : Nat} {kd' : Nat → rhK} {rf' : Nat → Nat → Option Nat} {av : List rhA} {owner : String} {X : MethodName} {r ci : Nat} {x : Int} {q : vw_C} (hx : (r : Int) = x) (hr : r < rw_n w) (hkd : rw_kd w r = .inr ci) (hc : rh_cls[ci]? = some q) (hd : decode (ry_c Y) pc = .ok (.invokevirtual idx, 3)) (hl : Cond.methodLink (ry_y Y).cls idx X ∈ lw_all) (hsm : Cond.sameMethod X.cls owner X.name X.desc ∈ lw_all) (hse : Cond.selects q.1 X (ry_y Y') ∈ lw_all) (him : Cond.instanceMethod (ry_y Y') ∈ lw_all) (hin : Cond.initialized (ry_y Y').cls ∈ lw_all) (hcd : Cond.code (ry_y Y') (ry_c Y') (ry_L Y') (ry_r Y') ∈ lw_all)
    (hz : Cond.declares ⟨owner, X.name, X.desc⟩ ∈ rh_nst) (hy : owner ≠ "java/lang/invoke/MethodHandle" ∧ owner ≠ "java/lang/invoke/VarHandle" ∧ (parseMethodDescriptor X.desc).map (fun d => d.parameters.length) = some av.length) (hm : ry_L Y' ≤ 81) (hro : rh_rok (ry_r Y') = true) (hS : S = av.reverse ++ (2, x) :: S1) (hS1 : rh_wd S1 ≤ 8) (hn : n' = rw_n w + mc ∧ (rw_g w = true ∨ mc = 0)) (hk1 : k.1 + mc ≤ k.2.2.1) (hk2 : k.2.1 + ms ≤ k.2.2.2) (hp : pc + 3 = pc') (K : rh_OKg w (rh_up w n' kd' rf') Y' n mc ms ((2, x) :: av) M (fun r M' => rh_At (rh_up w n' kd' rf') Y (n + 1) (k.1 + mc, k.2.1 + ms, k.2.2.1, k.2.2.2) Z pc' L (rh_res (ry_r Y') r S1) M')) : rh_At w Y (n + 1) k Z pc L S M := by
  subst hp
  subst hS
  intro p l e R s m args below meth c H locs ls C D
  obtain ⟨g1, g2, g3, g4, g5, g6⟩ := D
  refine rh_tight C (fun htg => ?_)
  have hts := C.2.2.2.2.2.2.2.1
  have hX := C.2.2.2.2.2.2.2.2.1
  have hok : ∀ z ∈ (2, x) :: av, rh_ok z := by
    intro z hz
    rcases List.mem_cons.mp hz with rfl | hz
    · trivial
    · exact g3 z (List.mem_append_left _ (List.mem_reverse.mpr hz))
  have hok1 : ∀ z ∈ S1, rh_ok z := fun z hz => g3 z (List.mem_append_right _ (List.mem_cons_of_mem _ hz))
  have hsum : (List.map (fun v => v.category) (S1.map (rh_a w))).sum ≤ 8 := by rw [rh_wd_sum]; exact hS1
  have he : (rh_ws w M)[r]? = some (rw_b w + r, .inr (ci, rh_fs w M r ci)) := by
    rw [rh_ws_get hr]
    simp only [rh_e, hkd]
  have hrecv := va_recv hX.1 g4 hc he
  have hb9 : rh_a w (2, x) = .ref (rw_b w + r) := by
    show va_rf (rh_r (rw_b w) x) = _
    rw [← hx, rh_r_n]
    rfl
  have hpre := rh_preS C g1 hok g4 g5 htg
  rw [List.map_cons, hb9] at hpre
  have hgood : GoodIn lw_all (va_wsU (ry_y Y).cls idx q.1 owner X (ry_y Y') (ws_ (ry_y Y') (ry_c Y') (ry_L Y') (ry_r Y'))) := by
    refine lw_app ?_ (lw_meth hcd)
    intro z hz9
    simp only [List.mem_cons, List.not_mem_nil, or_false] at hz9
    rcases hz9 with rfl | rfl | rfl | rfl | rfl
    · exact hl
    · exact hsm
    · exact hse
    · exact him
    · exact hin
  refine rh_after hro (va_runU (As := av.map (rh_a w)) (b := rw_b w + r) (C := q.1) ⟨C.1, C.2.1, C.2.2.1, C.2.2.2.2.2.1, hts⟩ (K l) (va_cwA av.length hts hgood rfl rfl rfl (hX.2.1 _ hz) hy ⟨?_, ?_⟩) ⟨rh_blind, hrecv, hpre⟩ rfl (List.length_map _) g6.1 ?_ (lv_room hsum) hd ⟨?_, ?_⟩) hn hk1 hk2 C g2 hok1 g5 g6
  · exact C.2.2.2.2.2.2.2.2.2.1
  · have := C.2.2.2.2.2.2.2.2.2.2.1
    show 8 + (ry_L Y' + 11) + 100 * n ≤ R.locals
    omega
  · simp [hb9]
  · exact Nat.le_trans hk1 C.2.2.2.2.2.2.2.2.2.2.2.1
  · exact Nat.le_trans hk2 C.2.2.2.2.2.2.2.2.2.2.2.2.1
/-- an overriding method; the reference names another one with code -/
def rh_kO (Y : rhY) (C : String) (X : MethodName) (na : Nat) : Prop := (∃ (b0 : ByteArray) (m0 : Nat) (r0 : Option FieldType), Cond.code ⟨X.cls, X.name, X.desc⟩ b0 m0 r0 ∈ lw_all) ∧ Cond.instanceMethod ⟨X.cls, X.name, X.desc⟩ ∈ lw_all ∧ Cond.sameMethod X.cls X.cls X.name X.desc ∈ lw_all ∧ Cond.selects C X (ry_y Y) ∈ lw_all ∧ Cond.instanceMethod (ry_y Y) ∈ lw_all ∧ Cond.initialized (ry_y Y).cls ∈ lw_all ∧ Cond.code (ry_y Y) (ry_c Y) (ry_L Y) (ry_r Y) ∈ lw_all ∧
  (X.cls ≠ "java/lang/invoke/MethodHandle" ∧ X.cls ≠ "java/lang/invoke/VarHandle" ∧ (parseMethodDescriptor X.desc).map (fun d => d.parameters.length) = some na) ∧ ry_L Y ≤ 81 ∧ rh_rok (ry_r Y) = true
theorem rh_cvr.ofO {idx na ci : Nat} {q : vw_C} {X : MethodName} (hc : rh_cls[ci]? = some q) (hl : Cond.methodLink (ry_y Y).cls idx X ∈ lw_all) (kk : rh_kO Y' q.1 X na) : rh_cvr w Y Y' idx na ci := by
  intro n Q pc L S1 av x M ho hd hna hw K
  subst hna
  obtain ⟨⟨b0, m0, r0, k0⟩, k1, k2, k3, k4, k5, k6, k7, k8, k9⟩ := kk
  exact rh_callO (n' := rw_n w) (kd' := rw_kd w) (rf' := rw_rf w) (mc := 0) (ms := 0) (pc + 3) (Int.toNat_of_nonneg ho.1) ho.2.1 ho.2.2 hc hd hl k2 k3 k4 k5 k6 k1 k0 k7 k8 k9 rfl hw ⟨rfl, .inr rfl⟩ (Nat.le_refl _) (Nat.le_refl _) rfl K
/-- an overriding method; the reference names one without code -/
def rh_kA (Y : rhY) (C : String) (X : MethodName) (na : Nat) : Prop := Cond.declares ⟨X.cls, X.name, X.desc⟩ ∈ rh_nst ∧ Cond.sameMethod X.cls X.cls X.name X.desc ∈ lw_all ∧ Cond.selects C X (ry_y Y) ∈ lw_all ∧ Cond.instanceMethod (ry_y Y) ∈ lw_all ∧ Cond.initialized (ry_y Y).cls ∈ lw_all ∧ Cond.code (ry_y Y) (ry_c Y) (ry_L Y) (ry_r Y) ∈ lw_all ∧
  (X.cls ≠ "java/lang/invoke/MethodHandle" ∧ X.cls ≠ "java/lang/invoke/VarHandle" ∧ (parseMethodDescriptor X.desc).map (fun d => d.parameters.length) = some na) ∧ ry_L Y ≤ 81 ∧ rh_rok (ry_r Y) = true
theorem rh_cvr.ofA {idx na ci : Nat} {q : vw_C} {X : MethodName} (hc : rh_cls[ci]? = some q) (hl : Cond.methodLink (ry_y Y).cls idx X ∈ lw_all) (kk : rh_kA Y' q.1 X na) : rh_cvr w Y Y' idx na ci := by
  intro n Q pc L S1 av x M ho hd hna hw K
  subst hna
  obtain ⟨k1, k2, k3, k4, k5, k6, k7, k8, k9⟩ := kk
  exact rh_callA (n' := rw_n w) (kd' := rw_kd w) (rf' := rw_rf w) (mc := 0) (ms := 0) (pc + 3) (Int.toNat_of_nonneg ho.1) ho.2.1 ho.2.2 hc hd hl k2 k3 k4 k5 k6 k1 k7 k8 k9 rfl hw ⟨rfl, .inr rfl⟩ (Nat.le_refl _) (Nat.le_refl _) rfl K
end RhVirt
