/-! ===== the forms of the rules that the printed rows use ===== -/
section RhForms
variable {w : rhW} {Y : rhY} {n : Nat} {k : Nat × Nat × Nat × Nat} {Z : List Frame → Array Value → State → State → Prop} {pc : Nat} {L : rhL} {S : List rhA} {M : rhM}
/-- an object of a class; an array; a fixed reference; a place with a number -/
def rh_ob (w : rhW) (x : Int) (ci : Nat) : Prop := 0 ≤ x ∧ x.toNat < rw_n w ∧ rw_kd w x.toNat = .inr ci
def rh_ar (w : rhW) (x : Int) (ty : FieldType) (len : Nat) : Prop := 0 ≤ x ∧ x.toNat < rw_n w ∧ rw_kd w x.toNat = .inl (ty, len)
def rh_fr (w : rhW) (x : Int) (kf : Nat) (y : Int) : Prop := 0 ≤ y ∧ rw_rf w x.toNat kf = some y.toNat
def rh_fd (w : rhW) (x : Int) (kf : Nat) : Prop := rw_rf w x.toNat kf = none
/-- a class's field: its number, who declares it, its name and type, whether it is final -/
def rh_fi (ci kf : Nat) (own nm ds : String) (fin : Bool) (ty : FieldType) : Prop := ∃ q, rh_cls[ci]? = some q ∧ kf < q.2.2 ∧ q.2.1 kf = (own, nm, ds, fin) ∧ rh_fty ci kf = ty
theorem rh_gI (pc' : Nat) {idx ci kf : Nat} {x j : Int} {ref own fn ds : String} {fin : Bool} {ty : FieldType} (ho : rh_ob w x ci) (hf : rh_fd w x kf) (hd : decode (ry_c Y) pc = .ok (.getfield idx, 3)) (hj : (kf : Int) = j) (fi : rh_fi ci kf own fn ds fin ty) (hl : rh_fl (ry_y Y).cls idx ref fn ds) (hs : rh_sf ref (own, fn, ds, fin)) (ht : rh_it ty = true) (hp : pc + 3 = pc') (K : rh_At w Y n k Z pc' L ((0, M x j) :: S) M) : rh_At w Y n k Z pc L ((2, x) :: S) M := by
  obtain ⟨q, hc, hk, hT, hty⟩ := fi
  exact rh_getI pc' hd (Int.toNat_of_nonneg ho.1) hj ho.2.1 ho.2.2 hc hk (by rw [hT]; exact hl) (by rw [hT]; exact hs) hf (by rw [hty]; exact ht) hp K
theorem rh_gJ (pc' : Nat) {idx ci kf : Nat} {x j : Int} {ref own fn ds : String} {fin : Bool} {ty : FieldType} (ho : rh_ob w x ci) (hf : rh_fd w x kf) (hd : decode (ry_c Y) pc = .ok (.getfield idx, 3)) (hj : (kf : Int) = j) (fi : rh_fi ci kf own fn ds fin ty) (hl : rh_fl (ry_y Y).cls idx ref fn ds) (hs : rh_sf ref (own, fn, ds, fin)) (ht : ty = .long) (hp : pc + 3 = pc') (K : rh_At w Y n k Z pc' L ((1, M x j) :: S) M) : rh_At w Y n k Z pc L ((2, x) :: S) M := by
  obtain ⟨q, hc, hk, hT, hty⟩ := fi
  exact rh_getJ pc' hd (Int.toNat_of_nonneg ho.1) hj ho.2.1 ho.2.2 hc hk (by rw [hT]; exact hl) (by rw [hT]; exact hs) hf (by rw [hty]; exact ht) hp K
theorem rh_gD (pc' : Nat) {idx ci kf : Nat} {x j : Int} {ref own fn ds : String} {fin : Bool} {ty : FieldType} (ho : rh_ob w x ci) (hf : rh_fd w x kf) (hd : decode (ry_c Y) pc = .ok (.getfield idx, 3)) (hj : (kf : Int) = j) (fi : rh_fi ci kf own fn ds fin ty) (hl : rh_fl (ry_y Y).cls idx ref fn ds) (hs : rh_sf ref (own, fn, ds, fin)) (ht : rh_rt ty = true) (hp : pc + 3 = pc') (K : rh_At w Y n k Z pc' L ((2, M x j) :: S) M) : rh_At w Y n k Z pc L ((2, x) :: S) M := by
  obtain ⟨q, hc, hk, hT, hty⟩ := fi
  exact rh_getD pc' hd (Int.toNat_of_nonneg ho.1) hj ho.2.1 ho.2.2 hc hk (by rw [hT]; exact hl) (by rw [hT]; exact hs) hf (by rw [hty]; exact ht) hp K
theorem rh_gR (pc' : Nat) {idx ci kf : Nat} {x y : Int} {ref own fn ds : String} {fin : Bool} {ty : FieldType} (ho : rh_ob w x ci) (hf : rh_fr w x kf y) (hd : decode (ry_c Y) pc = .ok (.getfield idx, 3)) (fi : rh_fi ci kf own fn ds fin ty) (hl : rh_fl (ry_y Y).cls idx ref fn ds) (hs : rh_sf ref (own, fn, ds, fin)) (hp : pc + 3 = pc') (K : rh_At w Y n k Z pc' L ((2, y) :: S) M) : rh_At w Y n k Z pc L ((2, x) :: S) M := by
  obtain ⟨q, hc, hk, hT, hty⟩ := fi
  exact rh_getR pc' hd (Int.toNat_of_nonneg ho.1) ho.2.1 ho.2.2 hc hk (by rw [hT]; exact hl) (by rw [hT]; exact hs) hf.2 (Int.toNat_of_nonneg hf.1) hp K
theorem rh_pI (pc' : Nat) {idx ci kf t : Nat} {x j v : Int} {ref own fn ds : String} (ho : rh_ob w x ci) (hf : rh_fd w x kf) (hd : decode (ry_c Y) pc = .ok (.putfield idx, 3)) (hj : (kf : Int) = j) (fi : rh_fi ci kf own fn ds false .int) (hl : rh_fl (ry_y Y).cls idx ref fn ds) (hs : rh_sf ref (own, fn, ds, false)) (hu : rh_ik t = true) (hv : t = 0 ∨ rI v) (hp : pc + 3 = pc') (K : rh_At w Y n k Z pc' L S (rh_set M x j v)) : rh_At w Y n k Z pc L ((t, v) :: (2, x) :: S) M := by
  obtain ⟨q, hc, hk, hT, hty⟩ := fi
  exact rh_putI pc' hd (Int.toNat_of_nonneg ho.1) hj ho.2.1 ho.2.2 hc hk (by rw [hT]; exact hl) (by rw [hT]; exact hs) hf (by rw [hT]) hty hu hv hp K
theorem rh_pZ (pc' : Nat) {idx ci kf t : Nat} {x j v : Int} {ref own fn ds : String} (ho : rh_ob w x ci) (hf : rh_fd w x kf) (hd : decode (ry_c Y) pc = .ok (.putfield idx, 3)) (hj : (kf : Int) = j) (fi : rh_fi ci kf own fn ds false .boolean) (hl : rh_fl (ry_y Y).cls idx ref fn ds) (hs : rh_sf ref (own, fn, ds, false)) (hu : rh_ik t = true) (hv : 0 ≤ v ∧ v ≤ 1) (hp : pc + 3 = pc') (K : rh_At w Y n k Z pc' L S (rh_set M x j v)) : rh_At w Y n k Z pc L ((t, v) :: (2, x) :: S) M := by
  obtain ⟨q, hc, hk, hT, hty⟩ := fi
  exact rh_putZ pc' hd (Int.toNat_of_nonneg ho.1) hj ho.2.1 ho.2.2 hc hk (by rw [hT]; exact hl) (by rw [hT]; exact hs) hf (by rw [hT]) hty hu hv hp K
theorem rh_pJ (pc' : Nat) {idx ci kf t : Nat} {x j v : Int} {ref own fn ds : String} (ho : rh_ob w x ci) (hf : rh_fd w x kf) (hd : decode (ry_c Y) pc = .ok (.putfield idx, 3)) (hj : (kf : Int) = j) (fi : rh_fi ci kf own fn ds false .long) (hl : rh_fl (ry_y Y).cls idx ref fn ds) (hs : rh_sf ref (own, fn, ds, false)) (hu : rh_jk t = true) (hv : t = 1 ∨ rL v) (hp : pc + 3 = pc') (K : rh_At w Y n k Z pc' L S (rh_set M x j v)) : rh_At w Y n k Z pc L ((t, v) :: (2, x) :: S) M := by
  obtain ⟨q, hc, hk, hT, hty⟩ := fi
  exact rh_putJ pc' hd (Int.toNat_of_nonneg ho.1) hj ho.2.1 ho.2.2 hc hk (by rw [hT]; exact hl) (by rw [hT]; exact hs) hf (by rw [hT]) hty hu hv hp K
theorem rh_pD (pc' : Nat) {idx ci kf : Nat} {x j v : Int} {ref own fn ds : String} {ty : FieldType} (ho : rh_ob w x ci) (hf : rh_fd w x kf) (hd : decode (ry_c Y) pc = .ok (.putfield idx, 3)) (hj : (kf : Int) = j) (fi : rh_fi ci kf own fn ds false ty) (hl : rh_fl (ry_y Y).cls idx ref fn ds) (hs : rh_sf ref (own, fn, ds, false)) (ht : rh_rt ty = true) (hp : pc + 3 = pc') (K : rh_At w Y n k Z pc' L S (rh_set M x j v)) : rh_At w Y n k Z pc L ((2, v) :: (2, x) :: S) M := by
  obtain ⟨q, hc, hk, hT, hty⟩ := fi
  exact rh_putD pc' hd (Int.toNat_of_nonneg ho.1) hj ho.2.1 ho.2.2 hc hk (by rw [hT]; exact hl) (by rw [hT]; exact hs) hf (Or.inl (by rw [hT])) (by rw [hty]; exact ht) hp K
theorem rh_lI (pc' : Nat) {len t : Nat} {x i : Int} (ha : rh_ar w x .int len) (hd : decode (ry_c Y) pc = .ok (.iaload, 1)) (ht : rh_ik t = true) (hb : 0 ≤ i ∧ i < (len : Int)) (hn : len ≤ 2147483647) (hp : pc + 1 = pc') (K : rh_At w Y n k Z pc' L ((0, M x i) :: S) M) : rh_At w Y n k Z pc L ((t, i) :: (2, x) :: S) M :=
  rh_iald pc' hd (Int.toNat_of_nonneg ha.1) ha.2.1 ha.2.2 ht hb.1 hb.2 hn hp K
theorem rh_lB (pc' : Nat) {len t : Nat} {x i : Int} (ha : rh_ar w x .byte len) (hd : decode (ry_c Y) pc = .ok (.baload, 1)) (ht : rh_ik t = true) (hb : 0 ≤ i ∧ i < (len : Int)) (hn : len ≤ 2147483647) (hp : pc + 1 = pc') (K : rh_At w Y n k Z pc' L ((0, M x i) :: S) M) : rh_At w Y n k Z pc L ((t, i) :: (2, x) :: S) M :=
  rh_bald pc' hd (Int.toNat_of_nonneg ha.1) ha.2.1 ha.2.2 ht hb.1 hb.2 hn hp K
theorem rh_lZ (pc' : Nat) {len t : Nat} {x i : Int} (ha : rh_ar w x .boolean len) (hd : decode (ry_c Y) pc = .ok (.baload, 1)) (ht : rh_ik t = true) (hb : 0 ≤ i ∧ i < (len : Int)) (hn : len ≤ 2147483647) (hp : pc + 1 = pc') (K : rh_At w Y n k Z pc' L ((0, M x i) :: S) M) : rh_At w Y n k Z pc L ((t, i) :: (2, x) :: S) M :=
  rh_zald pc' hd (Int.toNat_of_nonneg ha.1) ha.2.1 ha.2.2 ht hb.1 hb.2 hn hp K
theorem rh_lJ (pc' : Nat) {len t : Nat} {x i : Int} (ha : rh_ar w x .long len) (hd : decode (ry_c Y) pc = .ok (.laload, 1)) (ht : rh_ik t = true) (hb : 0 ≤ i ∧ i < (len : Int)) (hn : len ≤ 2147483647) (hp : pc + 1 = pc') (K : rh_At w Y n k Z pc' L ((1, M x i) :: S) M) : rh_At w Y n k Z pc L ((t, i) :: (2, x) :: S) M :=
  rh_lald pc' hd (Int.toNat_of_nonneg ha.1) ha.2.1 ha.2.2 ht hb.1 hb.2 hn hp K
theorem rh_lR (pc' : Nat) {len t tt : Nat} {x i y : Int} {E : String} (ha : rh_ar w x (.object E) len) (hf : 0 ≤ y ∧ rw_rf w x.toNat i.toNat = some y.toNat) (hT : rh_tl[tt]? = some (.object E)) (hd : decode (ry_c Y) pc = .ok (.aaload, 1)) (ht : rh_ik t = true) (hb : 0 ≤ i ∧ i < (len : Int)) (hn : len ≤ 2147483647) (hp : pc + 1 = pc') (K : rh_At w Y n k Z pc' L ((2, y) :: S) M) : rh_At w Y n k Z pc L ((t, i) :: (2, x) :: S) M :=
  rh_aaldR pc' hd (Int.toNat_of_nonneg ha.1) ha.2.1 ha.2.2 hT ht hb.1 hb.2 hn hf.2 (Int.toNat_of_nonneg hf.1) hp K
theorem rh_lD (pc' : Nat) {len t tt : Nat} {x i : Int} {E : String} (ha : rh_ar w x (.object E) len) (hf : rw_rf w x.toNat i.toNat = none) (hT : rh_tl[tt]? = some (.object E)) (hd : decode (ry_c Y) pc = .ok (.aaload, 1)) (ht : rh_ik t = true) (hb : 0 ≤ i ∧ i < (len : Int)) (hn : len ≤ 2147483647) (hp : pc + 1 = pc') (K : rh_At w Y n k Z pc' L ((2, M x i) :: S) M) : rh_At w Y n k Z pc L ((t, i) :: (2, x) :: S) M :=
  rh_aaldD pc' hd (Int.toNat_of_nonneg ha.1) ha.2.1 ha.2.2 hT ht hb.1 hb.2 hn hf hp K
theorem rh_ln (pc' : Nat) {len tt : Nat} {x v : Int} {ty : FieldType} (ha : rh_ar w x ty len) (hT : rh_tl[tt]? = some ty) (hd : decode (ry_c Y) pc = .ok (.arraylength, 1)) (hv : (len : Int) = v) (hn : len ≤ 2147483647) (hp : pc + 1 = pc') (K : rh_At w Y n k Z pc' L ((0, v) :: S) M) : rh_At w Y n k Z pc L ((2, x) :: S) M :=
  rh_alen pc' hd (Int.toNat_of_nonneg ha.1) ha.2.1 ha.2.2 hT hv hn hp K
theorem rh_sI (pc' : Nat) {len t u : Nat} {x i v : Int} (ha : rh_ar w x .int len) (hd : decode (ry_c Y) pc = .ok (.iastore, 1)) (ht : rh_ik t = true) (hu : rh_ik u = true) (hb : 0 ≤ i ∧ i < (len : Int)) (hn : len ≤ 2147483647) (hv : u = 0 ∨ rI v) (hp : pc + 1 = pc') (K : rh_At w Y n k Z pc' L S (rh_set M x i v)) : rh_At w Y n k Z pc L ((u, v) :: (t, i) :: (2, x) :: S) M :=
  rh_iast pc' hd (Int.toNat_of_nonneg ha.1) ha.2.1 ha.2.2 ht hu hb.1 hb.2 hn hv hp K
theorem rh_i2b_rg (x : Int) : -128 ≤ rh_i2b x ∧ rh_i2b x ≤ 127 := by
  unfold rh_i2b
  rw [Int8.toInt_toInt32]
  have h1 := Int8.le_toInt (rhI x).toInt8
  have h2 := Int8.toInt_lt (rhI x).toInt8
  omega
theorem rh_sB (pc' : Nat) {len t u : Nat} {x i v : Int} (ha : rh_ar w x .byte len) (hd : decode (ry_c Y) pc = .ok (.bastore, 1)) (ht : rh_ik t = true) (hu : rh_ik u = true) (hb : 0 ≤ i ∧ i < (len : Int)) (hn : len ≤ 2147483647) (hv : -128 ≤ v ∧ v ≤ 127) (hp : pc + 1 = pc') (K : rh_At w Y n k Z pc' L S (rh_set M x i v)) : rh_At w Y n k Z pc L ((u, v) :: (t, i) :: (2, x) :: S) M :=
  rh_bast pc' hd (Int.toNat_of_nonneg ha.1) ha.2.1 ha.2.2 ht hu hb.1 hb.2 hn hv hp K
theorem rh_sZ (pc' : Nat) {len t u : Nat} {x i v : Int} (ha : rh_ar w x .boolean len) (hd : decode (ry_c Y) pc = .ok (.bastore, 1)) (ht : rh_ik t = true) (hu : rh_ik u = true) (hb : 0 ≤ i ∧ i < (len : Int)) (hn : len ≤ 2147483647) (hv : 0 ≤ v ∧ v ≤ 1) (hp : pc + 1 = pc') (K : rh_At w Y n k Z pc' L S (rh_set M x i v)) : rh_At w Y n k Z pc L ((u, v) :: (t, i) :: (2, x) :: S) M :=
  rh_zast pc' hd (Int.toNat_of_nonneg ha.1) ha.2.1 ha.2.2 ht hu hb.1 hb.2 hn hv hp K
theorem rh_sJ (pc' : Nat) {len t u : Nat} {x i v : Int} (ha : rh_ar w x .long len) (hd : decode (ry_c Y) pc = .ok (.lastore, 1)) (ht : rh_ik t = true) (hu : rh_jk u = true) (hb : 0 ≤ i ∧ i < (len : Int)) (hn : len ≤ 2147483647) (hv : u = 1 ∨ rL v) (hp : pc + 1 = pc') (K : rh_At w Y n k Z pc' L S (rh_set M x i v)) : rh_At w Y n k Z pc L ((u, v) :: (t, i) :: (2, x) :: S) M :=
  rh_last pc' hd (Int.toNat_of_nonneg ha.1) ha.2.1 ha.2.2 ht hu hb.1 hb.2 hn hv hp K
/-! calls that make nothing -/
theorem rh_cS (pc' : Nat) {Y' : rhY} {idx : Nat} {S1 : List rhA} {av : List rhA} (hd : decode (ry_c Y) pc = .ok (.invokestatic idx, 3)) (hl : Cond.methodLink (ry_y Y).cls idx (ry_y Y') ∈ lw_all ∨ ∃ host, Cond.methodLinkNest (ry_y Y).cls idx (ry_y Y') host ∈ rh_nst) (hst : Cond.static (ry_y Y') ∈ lw_all) (hin : Cond.initialized (ry_y Y').cls ∈ lw_all) (hcd : Cond.code (ry_y Y') (ry_c Y') (ry_L Y') (ry_r Y') ∈ lw_all)
    (hy : (ry_y Y').cls ≠ "java/lang/invoke/MethodHandle" ∧ (ry_y Y').cls ≠ "java/lang/invoke/VarHandle" ∧ (parseMethodDescriptor (ry_y Y').desc).map (fun d => d.parameters.length) = some av.length) (hm : ry_L Y' ≤ 81) (hro : rh_rok (ry_r Y') = true) (hS : S = av.reverse ++ S1) (hS1 : rh_wd S1 ≤ 8) (hk : k.1 ≤ k.2.2.1 ∧ k.2.1 ≤ k.2.2.2) (hp : pc + 3 = pc') (K : rh_OK w Y' n av M (fun r M' => rh_At w Y (n + 1) k Z pc' L (rh_res (ry_r Y') r S1) M')) : rh_At w Y (n + 1) k Z pc L S M := by
  rcases hl with hl | ⟨host, hl⟩
  · exact rh_callS (n' := rw_n w) (kd' := rw_kd w) (rf' := rw_rf w) (mc := 0) (ms := 0) pc' hd hl hst hin hcd hy hm hro hS hS1 ⟨rfl, .inr rfl⟩ hk.1 hk.2 hp K
  · exact rh_callSN (n' := rw_n w) (kd' := rw_kd w) (rf' := rw_rf w) (mc := 0) (ms := 0) pc' hd hl hst hin hcd hy hm hro hS hS1 ⟨rfl, .inr rfl⟩ hk.1 hk.2 hp K
theorem rh_cV (pc' : Nat) {Y' : rhY} {idx ci : Nat} {x : Int} {q : vw_C} {S1 : List rhA} {av : List rhA} (ho : rh_ob w x ci) (hd : decode (ry_c Y) pc = .ok (.invokevirtual idx, 3)) (hc : rh_cls[ci]? = some q) (hl : Cond.methodLink (ry_y Y).cls idx (ry_y Y') ∈ lw_all ∨ ∃ host, Cond.methodLinkNest (ry_y Y).cls idx (ry_y Y') host ∈ rh_nst) (him : Cond.instanceMethod (ry_y Y') ∈ lw_all) (hse : Cond.selects q.1 (ry_y Y') (ry_y Y') ∈ lw_all) (hin : Cond.initialized q.1 ∈ lw_all) (hcd : Cond.code (ry_y Y') (ry_c Y') (ry_L Y') (ry_r Y') ∈ lw_all)
    (hy : (ry_y Y').cls = q.1 ∧ (ry_y Y').cls ≠ "java/lang/invoke/MethodHandle" ∧ (ry_y Y').cls ≠ "java/lang/invoke/VarHandle" ∧ (parseMethodDescriptor (ry_y Y').desc).map (fun d => d.parameters.length) = some av.length) (hm : ry_L Y' ≤ 81) (hro : rh_rok (ry_r Y') = true) (hS : S = av.reverse ++ (2, x) :: S1) (hS1 : rh_wd S1 ≤ 8) (hk : k.1 ≤ k.2.2.1 ∧ k.2.1 ≤ k.2.2.2) (hp : pc + 3 = pc') (K : rh_OK w Y' n ((2, x) :: av) M (fun r M' => rh_At w Y (n + 1) k Z pc' L (rh_res (ry_r Y') r S1) M')) : rh_At w Y (n + 1) k Z pc L S M := by
  rcases hl with hl | ⟨host, hl⟩
  · exact rh_callV (n' := rw_n w) (kd' := rw_kd w) (rf' := rw_rf w) (mc := 0) (ms := 0) pc' (Int.toNat_of_nonneg ho.1) ho.2.1 ho.2.2 hc hd hl him hse hin hcd hy hm hro hS hS1 ⟨rfl, .inr rfl⟩ hk.1 hk.2 hp K
  · exact rh_callVN (n' := rw_n w) (kd' := rw_kd w) (rf' := rw_rf w) (mc := 0) (ms := 0) pc' (Int.toNat_of_nonneg ho.1) ho.2.1 ho.2.2 hc hd hl him hse (by rw [hy.1]; exact hin) hcd hy.2 hm hro hS hS1 ⟨rfl, .inr rfl⟩ hk.1 hk.2 hp K
theorem rh_cU (pc' : Nat) {Y' : rhY} {idx ci : Nat} {x : Int} {q : vw_C} {S1 : List rhA} {av : List rhA} {owner : String} {X : MethodName} (ho : rh_ob w x ci) (hd : decode (ry_c Y) pc = .ok (.invokevirtual idx, 3)) (hc : rh_cls[ci]? = some q) (hl : Cond.methodLink (ry_y Y).cls idx X ∈ lw_all) (hsm : Cond.sameMethod X.cls owner X.name X.desc ∈ lw_all) (hse : Cond.selects q.1 X (ry_y Y') ∈ lw_all) (him : Cond.instanceMethod (ry_y Y') ∈ lw_all) (hin : Cond.initialized (ry_y Y').cls ∈ lw_all) (hcd : Cond.code (ry_y Y') (ry_c Y') (ry_L Y') (ry_r Y') ∈ lw_all)
    (hyx : ry_y Y' = ⟨owner, X.name, X.desc⟩) (hy : owner ≠ "java/lang/invoke/MethodHandle" ∧ owner ≠ "java/lang/invoke/VarHandle" ∧ (parseMethodDescriptor X.desc).map (fun d => d.parameters.length) = some av.length) (hm : ry_L Y' ≤ 81) (hro : rh_rok (ry_r Y') = true) (hS : S = av.reverse ++ (2, x) :: S1) (hS1 : rh_wd S1 ≤ 8) (hk : k.1 ≤ k.2.2.1 ∧ k.2.1 ≤ k.2.2.2) (hp : pc + 3 = pc') (K : rh_OK w Y' n ((2, x) :: av) M (fun r M' => rh_At w Y (n + 1) k Z pc' L (rh_res (ry_r Y') r S1) M')) : rh_At w Y (n + 1) k Z pc L S M :=
  rh_callU (n' := rw_n w) (kd' := rw_kd w) (rf' := rw_rf w) (mc := 0) (ms := 0) pc' (Int.toNat_of_nonneg ho.1) ho.2.1 ho.2.2 hc hd hl hsm hse him hin hcd hyx hy hm hro hS hS1 ⟨rfl, .inr rfl⟩ hk.1 hk.2 hp K
/-! longs compared, switches, static tables -/
theorem rh_lc_eq (tgt pc1 pc' : Nat) {off : Int} {t u : Nat} {x y : Int} (hd0 : decode (ry_c Y) pc = .ok (.lcmp, 1)) (hd : decode (ry_c Y) pc1 = .ok (.ifCond .eq off, 3)) (ht : rh_jk t = true) (hu : rh_jk u = true) (hx : t = 1 ∨ rL x) (hy : u = 1 ∨ rL y) (hp1 : pc + 1 = pc1) (hg : (pc1 : Int) + off = (tgt : Int)) (hp : pc1 + 3 = pc') (K1 : x = y → rh_At w Y n k Z tgt L S M) (K2 : ¬ (x = y) → rh_At w Y n k Z pc' L S M) : rh_At w Y n k Z pc L ((u, y) :: (t, x) :: S) M := by
  subst hp
  subst hp1
  intro p l e R s m args below meth c H locs ls C D
  obtain ⟨h1, h2, h3, h4⟩ := D
  have hx := rh_okj (rh_okh (rh_okt h3)) hx
  have hy := rh_okj (rh_okh h3) hy
  have e1 : rhJ x ≤ rhJ y ↔ x ≤ y := by rw [Int64.le_iff_toInt_le, rh_tj hx, rh_tj hy]
  have e2 : rhJ y ≤ rhJ x ↔ y ≤ x := by rw [Int64.le_iff_toInt_le, rh_tj hx, rh_tj hy]
  show W p l e R s m args below meth c H locs k.1 k.2.1 (Z below args s) (F0 m pc ls (rh_a w (u, y) :: rh_a w (t, x) :: S.map (rh_a w)))
  rw [rh_a_j ht, rh_a_j hu]
  refine W.lcmp C.1 C.2.1 hd0 (lv_if_eq C.1 C.2.1 hd hg (fun h => K1 ?_ p l e R s m args below meth c H locs ls C ⟨h1, h2, rh_okt (rh_okt h3), h4⟩) (fun h => K2 ?_ p l e R s m args below meth c H locs ls C ⟨h1, h2, rh_okt (rh_okt h3), h4⟩))
  all_goals simp only [GT.gt, GE.ge, ne_eq, lg_cmp_eq, lg_cmp_lt, lg_cmp_ge, lg_cmp_gt, lg_cmp_le, rh_lltj hx hy, rh_lltj hy hx, rh_leqj hx hy, e1, e2] at h ⊢
  all_goals first | exact h | omega
theorem rh_lc_ne (tgt pc1 pc' : Nat) {off : Int} {t u : Nat} {x y : Int} (hd0 : decode (ry_c Y) pc = .ok (.lcmp, 1)) (hd : decode (ry_c Y) pc1 = .ok (.ifCond .ne off, 3)) (ht : rh_jk t = true) (hu : rh_jk u = true) (hx : t = 1 ∨ rL x) (hy : u = 1 ∨ rL y) (hp1 : pc + 1 = pc1) (hg : (pc1 : Int) + off = (tgt : Int)) (hp : pc1 + 3 = pc') (K1 : x ≠ y → rh_At w Y n k Z tgt L S M) (K2 : ¬ (x ≠ y) → rh_At w Y n k Z pc' L S M) : rh_At w Y n k Z pc L ((u, y) :: (t, x) :: S) M := by
  subst hp
  subst hp1
  intro p l e R s m args below meth c H locs ls C D
  obtain ⟨h1, h2, h3, h4⟩ := D
  have hx := rh_okj (rh_okh (rh_okt h3)) hx
  have hy := rh_okj (rh_okh h3) hy
  have e1 : rhJ x ≤ rhJ y ↔ x ≤ y := by rw [Int64.le_iff_toInt_le, rh_tj hx, rh_tj hy]
  have e2 : rhJ y ≤ rhJ x ↔ y ≤ x := by rw [Int64.le_iff_toInt_le, rh_tj hx, rh_tj hy]
  show W p l e R s m args below meth c H locs k.1 k.2.1 (Z below args s) (F0 m pc ls (rh_a w (u, y) :: rh_a w (t, x) :: S.map (rh_a w)))
  rw [rh_a_j ht, rh_a_j hu]
  refine W.lcmp C.1 C.2.1 hd0 (lv_if_ne C.1 C.2.1 hd hg (fun h => K1 ?_ p l e R s m args below meth c H locs ls C ⟨h1, h2, rh_okt (rh_okt h3), h4⟩) (fun h => K2 ?_ p l e R s m args below meth c H locs ls C ⟨h1, h2, rh_okt (rh_okt h3), h4⟩))
  all_goals simp only [GT.gt, GE.ge, ne_eq, lg_cmp_eq, lg_cmp_lt, lg_cmp_ge, lg_cmp_gt, lg_cmp_le, rh_lltj hx hy, rh_lltj hy hx, rh_leqj hx hy, e1, e2] at h ⊢
  all_goals first | exact h | omega
theorem rh_lc_lt (tgt pc1 pc' : Nat) {off : Int} {t u : Nat} {x y : Int} (hd0 : decode (ry_c Y) pc = .ok (.lcmp, 1)) (hd : decode (ry_c Y) pc1 = .ok (.ifCond .lt off, 3)) (ht : rh_jk t = true) (hu : rh_jk u = true) (hx : t = 1 ∨ rL x) (hy : u = 1 ∨ rL y) (hp1 : pc + 1 = pc1) (hg : (pc1 : Int) + off = (tgt : Int)) (hp : pc1 + 3 = pc') (K1 : x < y → rh_At w Y n k Z tgt L S M) (K2 : ¬ (x < y) → rh_At w Y n k Z pc' L S M) : rh_At w Y n k Z pc L ((u, y) :: (t, x) :: S) M := by
  subst hp
  subst hp1
  intro p l e R s m args below meth c H locs ls C D
  obtain ⟨h1, h2, h3, h4⟩ := D
  have hx := rh_okj (rh_okh (rh_okt h3)) hx
  have hy := rh_okj (rh_okh h3) hy
  have e1 : rhJ x ≤ rhJ y ↔ x ≤ y := by rw [Int64.le_iff_toInt_le, rh_tj hx, rh_tj hy]
  have e2 : rhJ y ≤ rhJ x ↔ y ≤ x := by rw [Int64.le_iff_toInt_le, rh_tj hx, rh_tj hy]
  show W p l e R s m args below meth c H locs k.1 k.2.1 (Z below args s) (F0 m pc ls (rh_a w (u, y) :: rh_a w (t, x) :: S.map (rh_a w)))
  rw [rh_a_j ht, rh_a_j hu]
  refine W.lcmp C.1 C.2.1 hd0 (lv_if_lt C.1 C.2.1 hd hg (fun h => K1 ?_ p l e R s m args below meth c H locs ls C ⟨h1, h2, rh_okt (rh_okt h3), h4⟩) (fun h => K2 ?_ p l e R s m args below meth c H locs ls C ⟨h1, h2, rh_okt (rh_okt h3), h4⟩))
  all_goals simp only [GT.gt, GE.ge, ne_eq, lg_cmp_eq, lg_cmp_lt, lg_cmp_ge, lg_cmp_gt, lg_cmp_le, rh_lltj hx hy, rh_lltj hy hx, rh_leqj hx hy, e1, e2] at h ⊢
  all_goals first | exact h | omega
theorem rh_lc_ge (tgt pc1 pc' : Nat) {off : Int} {t u : Nat} {x y : Int} (hd0 : decode (ry_c Y) pc = .ok (.lcmp, 1)) (hd : decode (ry_c Y) pc1 = .ok (.ifCond .ge off, 3)) (ht : rh_jk t = true) (hu : rh_jk u = true) (hx : t = 1 ∨ rL x) (hy : u = 1 ∨ rL y) (hp1 : pc + 1 = pc1) (hg : (pc1 : Int) + off = (tgt : Int)) (hp : pc1 + 3 = pc') (K1 : y ≤ x → rh_At w Y n k Z tgt L S M) (K2 : ¬ (y ≤ x) → rh_At w Y n k Z pc' L S M) : rh_At w Y n k Z pc L ((u, y) :: (t, x) :: S) M := by
  subst hp
  subst hp1
  intro p l e R s m args below meth c H locs ls C D
  obtain ⟨h1, h2, h3, h4⟩ := D
  have hx := rh_okj (rh_okh (rh_okt h3)) hx
  have hy := rh_okj (rh_okh h3) hy
  have e1 : rhJ x ≤ rhJ y ↔ x ≤ y := by rw [Int64.le_iff_toInt_le, rh_tj hx, rh_tj hy]
  have e2 : rhJ y ≤ rhJ x ↔ y ≤ x := by rw [Int64.le_iff_toInt_le, rh_tj hx, rh_tj hy]
  show W p l e R s m args below meth c H locs k.1 k.2.1 (Z below args s) (F0 m pc ls (rh_a w (u, y) :: rh_a w (t, x) :: S.map (rh_a w)))
  rw [rh_a_j ht, rh_a_j hu]
  refine W.lcmp C.1 C.2.1 hd0 (lv_if_ge C.1 C.2.1 hd hg (fun h => K1 ?_ p l e R s m args below meth c H locs ls C ⟨h1, h2, rh_okt (rh_okt h3), h4⟩) (fun h => K2 ?_ p l e R s m args below meth c H locs ls C ⟨h1, h2, rh_okt (rh_okt h3), h4⟩))
  all_goals simp only [GT.gt, GE.ge, ne_eq, lg_cmp_eq, lg_cmp_lt, lg_cmp_ge, lg_cmp_gt, lg_cmp_le, rh_lltj hx hy, rh_lltj hy hx, rh_leqj hx hy, e1, e2] at h ⊢
  all_goals first | exact h | omega
theorem rh_lc_gt (tgt pc1 pc' : Nat) {off : Int} {t u : Nat} {x y : Int} (hd0 : decode (ry_c Y) pc = .ok (.lcmp, 1)) (hd : decode (ry_c Y) pc1 = .ok (.ifCond .gt off, 3)) (ht : rh_jk t = true) (hu : rh_jk u = true) (hx : t = 1 ∨ rL x) (hy : u = 1 ∨ rL y) (hp1 : pc + 1 = pc1) (hg : (pc1 : Int) + off = (tgt : Int)) (hp : pc1 + 3 = pc') (K1 : y < x → rh_At w Y n k Z tgt L S M) (K2 : ¬ (y < x) → rh_At w Y n k Z pc' L S M) : rh_At w Y n k Z pc L ((u, y) :: (t, x) :: S) M := by
  subst hp
  subst hp1
  intro p l e R s m args below meth c H locs ls C D
  obtain ⟨h1, h2, h3, h4⟩ := D
  have hx := rh_okj (rh_okh (rh_okt h3)) hx
  have hy := rh_okj (rh_okh h3) hy
  have e1 : rhJ x ≤ rhJ y ↔ x ≤ y := by rw [Int64.le_iff_toInt_le, rh_tj hx, rh_tj hy]
  have e2 : rhJ y ≤ rhJ x ↔ y ≤ x := by rw [Int64.le_iff_toInt_le, rh_tj hx, rh_tj hy]
  show W p l e R s m args below meth c H locs k.1 k.2.1 (Z below args s) (F0 m pc ls (rh_a w (u, y) :: rh_a w (t, x) :: S.map (rh_a w)))
  rw [rh_a_j ht, rh_a_j hu]
  refine W.lcmp C.1 C.2.1 hd0 (lv_if_gt C.1 C.2.1 hd hg (fun h => K1 ?_ p l e R s m args below meth c H locs ls C ⟨h1, h2, rh_okt (rh_okt h3), h4⟩) (fun h => K2 ?_ p l e R s m args below meth c H locs ls C ⟨h1, h2, rh_okt (rh_okt h3), h4⟩))
  all_goals simp only [GT.gt, GE.ge, ne_eq, lg_cmp_eq, lg_cmp_lt, lg_cmp_ge, lg_cmp_gt, lg_cmp_le, rh_lltj hx hy, rh_lltj hy hx, rh_leqj hx hy, e1, e2] at h ⊢
  all_goals first | exact h | omega
theorem rh_lc_le (tgt pc1 pc' : Nat) {off : Int} {t u : Nat} {x y : Int} (hd0 : decode (ry_c Y) pc = .ok (.lcmp, 1)) (hd : decode (ry_c Y) pc1 = .ok (.ifCond .le off, 3)) (ht : rh_jk t = true) (hu : rh_jk u = true) (hx : t = 1 ∨ rL x) (hy : u = 1 ∨ rL y) (hp1 : pc + 1 = pc1) (hg : (pc1 : Int) + off = (tgt : Int)) (hp : pc1 + 3 = pc') (K1 : x ≤ y → rh_At w Y n k Z tgt L S M) (K2 : ¬ (x ≤ y) → rh_At w Y n k Z pc' L S M) : rh_At w Y n k Z pc L ((u, y) :: (t, x) :: S) M := by
  subst hp
  subst hp1
  intro p l e R s m args below meth c H locs ls C D
  obtain ⟨h1, h2, h3, h4⟩ := D
  have hx := rh_okj (rh_okh (rh_okt h3)) hx
  have hy := rh_okj (rh_okh h3) hy
  have e1 : rhJ x ≤ rhJ y ↔ x ≤ y := by rw [Int64.le_iff_toInt_le, rh_tj hx, rh_tj hy]
  have e2 : rhJ y ≤ rhJ x ↔ y ≤ x := by rw [Int64.le_iff_toInt_le, rh_tj hx, rh_tj hy]
  show W p l e R s m args below meth c H locs k.1 k.2.1 (Z below args s) (F0 m pc ls (rh_a w (u, y) :: rh_a w (t, x) :: S.map (rh_a w)))
  rw [rh_a_j ht, rh_a_j hu]
  refine W.lcmp C.1 C.2.1 hd0 (lv_if_le C.1 C.2.1 hd hg (fun h => K1 ?_ p l e R s m args below meth c H locs ls C ⟨h1, h2, rh_okt (rh_okt h3), h4⟩) (fun h => K2 ?_ p l e R s m args below meth c H locs ls C ⟨h1, h2, rh_okt (rh_okt h3), h4⟩))
  all_goals simp only [GT.gt, GE.ge, ne_eq, lg_cmp_eq, lg_cmp_lt, lg_cmp_ge, lg_cmp_gt, lg_cmp_le, rh_lltj hx hy, rh_lltj hy hx, rh_leqj hx hy, e1, e2] at h ⊢
  all_goals first | exact h | omega
theorem rh_tswIn (tgt : Nat) {t len : Nat} {x dflt lo hi off : Int} {offs : Array Int} (hd : decode (ry_c Y) pc = .ok (.tableswitch dflt lo hi offs, len)) (ht : rh_ik t = true) (hx : t = 0 ∨ rI x) (h1 : ¬ x < lo) (h2 : ¬ hi < x) (ho : offs[(x - lo).toNat]? = some off) (hg : (pc : Int) + off = (tgt : Int)) (K : rh_At w Y n k Z tgt L S M) : rh_At w Y n k Z pc L ((t, x) :: S) M := by
  refine rh_known (fun _ _ hs0 => ?_)
  have hx := rh_oki (rh_okh hs0) hx
  refine rh_stepS K (fun _ h => rh_okt h) (fun p l e R s m args below meth c H locs ls cells slots Qf hx1 hb hl hs kk => ?_)
  show W p l e R s m args below meth c H locs cells slots Qf (F0 m pc ls (rh_a w (t, x) :: S.map (rh_a w)))
  rw [rh_a_i ht]
  exact lv_tableIn hx1 hb hd (by rw [rh_ti hx]; exact h1) (by rw [rh_ti hx]; exact h2) (by rw [rh_ti hx]; exact ho) hg kk
theorem rh_tswOut (tgt : Nat) {t len : Nat} {x dflt lo hi : Int} {offs : Array Int} (hd : decode (ry_c Y) pc = .ok (.tableswitch dflt lo hi offs, len)) (ht : rh_ik t = true) (hx : t = 0 ∨ rI x) (h1 : x < lo ∨ hi < x) (hg : (pc : Int) + dflt = (tgt : Int)) (K : rh_At w Y n k Z tgt L S M) : rh_At w Y n k Z pc L ((t, x) :: S) M := by
  refine rh_known (fun _ _ hs0 => ?_)
  have hx := rh_oki (rh_okh hs0) hx
  refine rh_stepS K (fun _ h => rh_okt h) (fun p l e R s m args below meth c H locs ls cells slots Qf hx1 hb hl hs kk => ?_)
  show W p l e R s m args below meth c H locs cells slots Qf (F0 m pc ls (rh_a w (t, x) :: S.map (rh_a w)))
  rw [rh_a_i ht]
  exact lv_tableOut hx1 hb hd (by rw [rh_ti hx]; exact h1) hg kk
/-- a static table -/
theorem rh_gst (pc' : Nat) {idx i : Nat} {x : Int} {q : String × String × List Int} {ref : String} (hd : decode (ry_c Y) pc = .ok (.getstatic idx, 3)) (hq : rh_sa[i]? = some q) (hx : (i : Int) = x) (hl : Cond.fieldLink (ry_y Y).cls idx ref q.2.1 "[I" ∈ lw_all) (hr : ref = q.1) (hp : pc + 3 = pc') (K : rh_At w Y n k Z pc' L ((8, x) :: S) M) : rh_At w Y n k Z pc L S M := by
  subst hp
  subst hx
  subst hr
  intro p l e R s m args below meth c H locs ls C D
  obtain ⟨g1, g2, g3, g4, g5⟩ := D
  have hts := C.2.2.2.2.2.2.2.1
  have hX := C.2.2.2.2.2.2.2.2.1
  have KK := K p l e R s m args below meth c H locs ls C ⟨g1, g2, rh_okc (a := (8, (i : Int))) trivial g3, g4, g5⟩
  exact va_gets C.1 C.2.1 (hX.2.2.1 i q hq).1 g5.1 C.2.2.2.2.2.1 (hts _ hl) (fun _ h => h) hd KK
theorem rh_lT (pc' : Nat) {j len t : Nat} {x i : Int} {q : String × String × List Int} (hq : rh_sa[j]? = some q) (hx : (j : Int) = x) (hlen : q.2.2.length = len) (hd : decode (ry_c Y) pc = .ok (.iaload, 1)) (ht : rh_ik t = true) (hb : 0 ≤ i ∧ i < (len : Int)) (hn : len ≤ 2147483647) (hr : ∀ a ∈ q.2.2, rI a) (hp : pc + 1 = pc') (K : rh_At w Y n k Z pc' L ((0, q.2.2.getD i.toNat 0) :: S) M) : rh_At w Y n k Z pc L ((t, i) :: (8, x) :: S) M := by
  subst hp
  subst hx
  subst hlen
  intro p l e R s m args below meth c H locs ls C D
  obtain ⟨g1, g2, g3, g4, g5⟩ := D
  have hX := C.2.2.2.2.2.2.2.2.1
  have hi : i.toNat < q.2.2.length := by omega
  have hv : rI (q.2.2.getD i.toNat 0) := by
    rw [List.getD_eq_getElem?_getD, List.getElem?_eq_getElem hi]
    exact hr _ (List.getElem_mem hi)
  have KK := K p l e R s m args below meth c H locs ls C ⟨g1, g2, rh_okc (a := (0, q.2.2.getD i.toNat 0)) hv (rh_okt (rh_okt g3)), g4, g5⟩
  show W p l e R s m args below meth c H locs k.1 k.2.1 (Z below args s) (F0 m pc ls (rh_a w (t, i) :: .ref (rw_t w ((j : Int).toNat)) :: S.map (rh_a w)))
  rw [rh_a_i ht]
  refine va_ti C.1 C.2.1 (hX.2.2.1 j q hq).2 g5.1 (rh_in hb.1 hb.2 hn) (v := .int (rhI (q.2.2.getD i.toNat 0))) ?_ hd KK
  rw [rh_cl ⟨by omega, by omega⟩]
/-- a number chosen by a test -/
theorem rh_it1 {α : Type} {c : Prop} [Decidable c] {a b : α} (h : c) : a = if c then a else b := (if_pos h).symm
theorem rh_it0 {α : Type} {c : Prop} [Decidable c] {a b : α} (h : ¬ c) : b = if c then a else b := (if_neg h).symm
end RhForms
