/-! an interface call of a lambda's object -/
section XLC
theorem xsteps_weaken {tb : Tables} {e : Env} {mid below : List Frame} {a b : State} (h : Steps tb e (mid ++ below) a b) : Steps tb e below a b := by
  obtain ⟨n, hn, w⟩ := h
  exact ⟨n, hn, fun k hk => (w k hk).weaken⟩
theorem xref_is (x : Option Nat) : (va_rf x).isRef = true := by cases x <;> rfl
variable {p : Program} {l : Launch} {e : Env} {R : Room} {s : State} {m : MethodId} {args : Array Value} {below : List Frame} {meth : Method} {c : Code} {T : State} {locs : List Loc} {cells slots : Nat}
/-- the forwarder's frame up to the target's call -/
theorem xf_walk {i : Nat} (hi : i < 13) {Y : State} {S0 : State} {R9 : Room} {below9 : List Frame} {mk : MethodId} {methk : Method} {ck : Code} {a : Nat} {x : Option Nat} {vals : List Value} (Y₀ : Stand p l e R9 S0 mk #[.ref a, va_rf x] below9 methk ck Y [] 0 0) (hexec : p.tables.exec = Jvm.exec) (hbytes : ck.code = xfB i) (hml : ck.maxLocals = 2) (hk : vals.length = xfk i)
    {cK : ClassId} (hcell : Y.heap[a]? = some { cls := cK, slots := vals.toArray, vm := .none })
    (hf0 : 1 ≤ xfk i → ∃ g0, Y.vm.fieldReady mk.cls (xfF i 0) mk.cls g0 ∧ g0.isStatic = false ∧ g0.slot = 0) (hf1 : 2 ≤ xfk i → ∃ g0, Y.vm.fieldReady mk.cls (xfF i 1) mk.cls g0 ∧ g0.isStatic = false ∧ g0.slot = 1)
    {t : MethodId} {kt : Class} {metht : Method} (href : plainRef Y e mk.cls (xfN i).1) (hready : Y.vm.methodReady mk.cls (xfN i).1 t) (hkt : Y.vm.classes[t.cls]? = some kt) (hmt : Y.vm.method? t = some metht)
    (hpoly : signaturePolymorphic kt metht = false) (hstatic : metht.isStatic = true) (hinit : kt.init = .initialized) (hpar : metht.sig.parameters.length = xfk i + 1) :
    ∃ (pc9 : Nat), decode ck.code pc9 = .ok (.invokestatic (xfN i).1, 3) ∧ decode ck.code (pc9 + 3) = .ok (.ireturn, 1) ∧
      ∀ target, (∀ acts, Steps p.tables e below9 (doInvoke e (Y.setTop { method := mk, pc := pc9, locals := #[.val (.ref a), .val (va_rf x)], stack := [], locked := none }) acts t (vals ++ [va_rf x]).toArray).1 target) → Steps p.tables e below9 (Y.setTop (entryFrame mk #[.ref a, va_rf x] ck.maxLocals)) target := by
  have hxr := xref_is x
  have hloc : entryFrame mk #[.ref a, va_rf x] ck.maxLocals = { method := mk, pc := 0, locals := #[.val (.ref a), .val (va_rf x)], stack := [], locked := none } := by rw [hml]; cases x <;> rfl
  have hs : Y.topJava?.isSome := Y₀.here.top
  rw [hloc]
  by_cases h2 : xfk i = 2
  · have hB : xfB i = ⟨#[0x2a, 0xb4, 0, 16, 0x2a, 0xb4, 0, 18, 0x2b, 0xb8, 0, 26, 0xac]⟩ := by unfold xfB; rw [if_pos h2]
    have hN : (xfN i).1 = 26 := by unfold xfN; rw [if_pos h2]
    have hF0 : xfF i 0 = 16 := by unfold xfF; rw [if_pos h2]
    have hF1 : xfF i 1 = 18 := by unfold xfF; rw [if_pos h2]
    obtain ⟨g0, hr0, hs0, hsl0⟩ := hf0 (by omega)
    obtain ⟨g1, hr1, hs1, hsl1⟩ := hf1 (by omega)
    rw [hF0] at hr0
    rw [hF1] at hr1
    rw [h2] at hk hpar
    obtain ⟨u0, u1, rfl⟩ : ∃ u0 u1, vals = [u0, u1] := by
      match vals, hk with
      | [u0, u1], _ => exact ⟨u0, u1, rfl⟩
    have e0 : [u0, u1][0]? = some u0 := rfl
    have e1 : [u0, u1][1]? = some u1 := rfl
    rw [hB] at hbytes
    rw [hN] at href hready ⊢
    have d0 : decode (⟨#[0x2a, 0xb4, 0, 16, 0x2a, 0xb4, 0, 18, 0x2b, 0xb8, 0, 26, 0xac]⟩ : ByteArray) 0 = .ok (.aload_n 0, 1) := by decide +kernel
    have d1 : decode (⟨#[0x2a, 0xb4, 0, 16, 0x2a, 0xb4, 0, 18, 0x2b, 0xb8, 0, 26, 0xac]⟩ : ByteArray) 1 = .ok (.getfield 16, 3) := by decide +kernel
    have d4 : decode (⟨#[0x2a, 0xb4, 0, 16, 0x2a, 0xb4, 0, 18, 0x2b, 0xb8, 0, 26, 0xac]⟩ : ByteArray) 4 = .ok (.aload_n 0, 1) := by decide +kernel
    have d5 : decode (⟨#[0x2a, 0xb4, 0, 16, 0x2a, 0xb4, 0, 18, 0x2b, 0xb8, 0, 26, 0xac]⟩ : ByteArray) 5 = .ok (.getfield 18, 3) := by decide +kernel
    have d8 : decode (⟨#[0x2a, 0xb4, 0, 16, 0x2a, 0xb4, 0, 18, 0x2b, 0xb8, 0, 26, 0xac]⟩ : ByteArray) 8 = .ok (.aload_n 1, 1) := by decide +kernel
    have d9 : decode (⟨#[0x2a, 0xb4, 0, 16, 0x2a, 0xb4, 0, 18, 0x2b, 0xb8, 0, 26, 0xac]⟩ : ByteArray) 9 = .ok (.invokestatic 26, 3) := by decide +kernel
    have d12 : decode (⟨#[0x2a, 0xb4, 0, 16, 0x2a, 0xb4, 0, 18, 0x2b, 0xb8, 0, 26, 0xac]⟩ : ByteArray) 12 = .ok (.ireturn, 1) := by decide +kernel
    refine ⟨9, by rw [hbytes]; exact d9, by rw [hbytes]; exact d12, fun target hgo => ?_⟩
    jvm_step Y₀.here [hexec, hbytes, d0, Value.isRef]
    jvm_step Y₀.here [hexec, hbytes, d1, getfield.wp_ready (e := e) (s := Y) (c := mk.cls) (field := g0) (a := a) (rest := []) (cell := { cls := cK, slots := [u0, u1].toArray, vm := .none }) (v := u0)
        (f := { method := mk, pc := 1, locals := #[.val (.ref a), .val (va_rf x)], stack := [.ref a], locked := none }) hs hr0 hs0 rfl hcell (by simp) (by rw [hsl0, List.getElem?_toArray, e0])]
    jvm_step Y₀.here [hexec, hbytes, d4, Value.isRef]
    jvm_step Y₀.here [hexec, hbytes, d5, getfield.wp_ready (e := e) (s := Y) (c := mk.cls) (field := g1) (a := a) (rest := [u0]) (cell := { cls := cK, slots := [u0, u1].toArray, vm := .none }) (v := u1)
        (f := { method := mk, pc := 5, locals := #[.val (.ref a), .val (va_rf x)], stack := [.ref a, u0], locked := none }) hs hr1 hs1 rfl hcell (by simp) (by rw [hsl1, List.getElem?_toArray, e1])]
    jvm_step Y₀.here [hexec, hbytes, d8, hxr]
    jvm_step Y₀.here [hexec, hbytes, d9, invokestatic.wp_ready (e := e) (s := Y) (m := t) (k := kt) (meth := metht) (args := [u0, u1, va_rf x]) (rest := [])
        (f := { method := mk, pc := 9, locals := #[.val (.ref a), .val (va_rf x)], stack := [va_rf x, u1, u0], locked := none }) hs href hready hkt hmt hpoly hstatic hinit hpar.symm rfl]
    intro acts
    exact hgo acts
  · by_cases h1 : xfk i = 1
    · have hB : xfB i = ⟨#[0x2a, 0xb4, 0, 15, 0x2b, 0xb8, 0, 23, 0xac]⟩ := by unfold xfB; rw [if_neg h2, if_pos h1]
      have hN : (xfN i).1 = 23 := by unfold xfN; rw [if_neg h2, if_pos h1]
      have hF0 : xfF i 0 = 15 := by unfold xfF; rw [if_neg h2]
      obtain ⟨g0, hr0, hs0, hsl0⟩ := hf0 (by omega)
      rw [hF0] at hr0
      rw [h1] at hk hpar
      obtain ⟨u0, rfl⟩ : ∃ u0, vals = [u0] := List.length_eq_one_iff.mp hk
      have e0 : [u0][0]? = some u0 := rfl
      rw [hB] at hbytes
      rw [hN] at href hready ⊢
      have d0 : decode (⟨#[0x2a, 0xb4, 0, 15, 0x2b, 0xb8, 0, 23, 0xac]⟩ : ByteArray) 0 = .ok (.aload_n 0, 1) := by decide +kernel
      have d1 : decode (⟨#[0x2a, 0xb4, 0, 15, 0x2b, 0xb8, 0, 23, 0xac]⟩ : ByteArray) 1 = .ok (.getfield 15, 3) := by decide +kernel
      have d4 : decode (⟨#[0x2a, 0xb4, 0, 15, 0x2b, 0xb8, 0, 23, 0xac]⟩ : ByteArray) 4 = .ok (.aload_n 1, 1) := by decide +kernel
      have d5 : decode (⟨#[0x2a, 0xb4, 0, 15, 0x2b, 0xb8, 0, 23, 0xac]⟩ : ByteArray) 5 = .ok (.invokestatic 23, 3) := by decide +kernel
      have d8 : decode (⟨#[0x2a, 0xb4, 0, 15, 0x2b, 0xb8, 0, 23, 0xac]⟩ : ByteArray) 8 = .ok (.ireturn, 1) := by decide +kernel
      refine ⟨5, by rw [hbytes]; exact d5, by rw [hbytes]; exact d8, fun target hgo => ?_⟩
      jvm_step Y₀.here [hexec, hbytes, d0, Value.isRef]
      jvm_step Y₀.here [hexec, hbytes, d1, getfield.wp_ready (e := e) (s := Y) (c := mk.cls) (field := g0) (a := a) (rest := []) (cell := { cls := cK, slots := [u0].toArray, vm := .none }) (v := u0)
        (f := { method := mk, pc := 1, locals := #[.val (.ref a), .val (va_rf x)], stack := [.ref a], locked := none }) hs hr0 hs0 rfl hcell (by simp) (by rw [hsl0, List.getElem?_toArray, e0])]
      jvm_step Y₀.here [hexec, hbytes, d4, hxr]
      jvm_step Y₀.here [hexec, hbytes, d5, invokestatic.wp_ready (e := e) (s := Y) (m := t) (k := kt) (meth := metht) (args := [u0, va_rf x]) (rest := [])
        (f := { method := mk, pc := 5, locals := #[.val (.ref a), .val (va_rf x)], stack := [va_rf x, u0], locked := none }) hs href hready hkt hmt hpoly hstatic hinit hpar.symm rfl]
      intro acts
      exact hgo acts
    · have h0 : xfk i = 0 := by unfold xfk at h1 h2 ⊢; split <;> simp_all
      have hB : xfB i = ⟨#[0x2b, 0xb8, 0, 17, 0xac]⟩ := by unfold xfB; rw [if_neg h2, if_neg h1]
      have hN : (xfN i).1 = 17 := by unfold xfN; rw [if_neg h2, if_neg h1]
      have hv : vals = [] := List.eq_nil_of_length_eq_zero (hk.trans h0)
      subst hv
      rw [hB] at hbytes
      rw [hN] at href hready ⊢
      rw [h0] at hpar
      have d0 : decode (⟨#[0x2b, 0xb8, 0, 17, 0xac]⟩ : ByteArray) 0 = .ok (.aload_n 1, 1) := by decide +kernel
      have d1 : decode (⟨#[0x2b, 0xb8, 0, 17, 0xac]⟩ : ByteArray) 1 = .ok (.invokestatic 17, 3) := by decide +kernel
      have d4 : decode (⟨#[0x2b, 0xb8, 0, 17, 0xac]⟩ : ByteArray) 4 = .ok (.ireturn, 1) := by decide +kernel
      refine ⟨1, by rw [hbytes]; exact d1, by rw [hbytes]; exact d4, fun target hgo => ?_⟩
      jvm_step Y₀.here [hexec, hbytes, d0, hxr]
      jvm_step Y₀.here [hexec, hbytes, d1, invokestatic.wp_ready (e := e) (s := Y) (m := t) (k := kt) (meth := metht) (args := [va_rf x]) (rest := [])
        (f := { method := mk, pc := 1, locals := #[.val (.ref a), .val (va_rf x)], stack := [va_rf x], locked := none }) hs href hready hkt hmt hpoly hstatic hinit hpar.symm rfl]
      intro acts
      exact hgo acts
end XLC
section XLD
variable {Z : XZ} {κ : XK} {μ : XU} {δ : XT} {pc : Nat} {ls : Array Slot} {rest : List Value} {index fr lo fr0 lo0 yn : Nat} {y : MethodName} {yc : ByteArray} {yr : Option FieldType} {x : Option Nat}
/-- the interface's method of the sites -/
def xSamOk (i which : Nat) : Prop := (xlam i).2.2.2.iface = (ySam which).cls ∧ (xlam i).2.2.2.name = (ySam which).name ∧ (xlam i).2.2.2.sam.toString = (ySam which).desc ∧ ((ySam which).cls ≠ "java/lang/invoke/MethodHandle" ∧ (ySam which).cls ≠ "java/lang/invoke/VarHandle") ∧ Cond.declares (ySam which) ∈ lw_tbl ∧ Cond.interfaceMethod (ySam which).cls (ySam which).cls (ySam which).name (ySam which).desc ∈ lw_tbl ∧ (parseMethodDescriptor (ySam which).desc).map (fun d => d.parameters.length) = some 1
theorem xf_run {i which : Nat} (hi : i < 13) (hwh : xSamOk i which) (hy : y = ⟨(xlam i).2.2.2.implClass, (xlam i).2.2.2.implName, (xlam i).2.2.2.implDesc.toString⟩)
    (hyc : (y.cls ≠ "java/lang/invoke/MethodHandle" ∧ y.cls ≠ "java/lang/invoke/VarHandle") ∧ (parseMethodDescriptor y.desc).map (fun d => d.parameters.length) = some (xfk i + 1)) (hpl : plainName ((xlam i).1.cls ++ "$$Lambda") = true)
    {vals : List Value} (hk : vals.length = xfk i) (hw : GoodIn lw_all (ws_ y yc yn yr)) (w1 : Cond.static y ∈ lw_all) (w2 : Cond.initialized y.cls ∈ lw_all)
    (hlink : Cond.methodLink δ.2.2.1 index (ySam which) ∈ lw_all) (d : decode δ.1 pc = .ok (.invokeinterface index 2, 5)) (hμ : μ.2.2 = (fr0, lo0)) (hF : fr + 2 ≤ fr0) (hL : 21 + (8 + (yn + 11) + lo) ≤ lo0) (hW : (rest.map fun v => v.category).sum ≤ 8) (hls : ls.size = δ.2.1)
    {a : Nat} {z : Int32} {h h1 : XH} (ha : h.1 a = some (.inr (100 + i, vals)))
    (hM : vx_Met Z.2.2.2.2.1 y (ws_ y yc yn yr) { frames := fr, cells := h1.2.1 - h.2.1, slots := h1.2.2.1 - h.2.2.1, locals := lo } (xPc Z (vals ++ [va_rf x]) h) (xQc Z (.ok (some (.int z))) h1) (xXC Z (.ok (some (.int z))) h1) (h1.2.1 - h.2.1) (h1.2.2.1 - h.2.2.1) (xfree Z))
    (hz : ((xlam i).2.2.2.sam.returnType = some .int) ∨ ((xlam i).2.2.2.sam.returnType = some .boolean ∧ (z = 0 ∨ z = 1)))
    (H : Heap) (locs : List Loc) (cells slots : Nat) (R : Room) (C : xC Z κ δ) (q2 : xRel Z h H) (q6 : R.frames = μ.2.2.1) (q7 : R.locals = μ.2.2.2) (q8 : cells + (h1.2.1 - h.2.1) ≤ R.cells) (q9 : slots + (h1.2.2.1 - h.2.2.1) ≤ R.slots) :
    vx_Run5 κ.1 κ.2.1 κ.2.2.1 R κ.2.2.2.1 κ.2.2.2.2.1 κ.2.2.2.2.2.1 κ.2.2.2.2.2.2.1 κ.2.2.2.2.2.2.2.1 κ.2.2.2.2.2.2.2.2 H locs cells slots (h1.2.1 - h.2.1) (h1.2.2.1 - h.2.2.1) (F0 κ.2.2.2.2.1 pc ls (va_rf x :: va_rf (some a) :: rest)) rest (xQc Z (.ok (some (.int z))) h1 #[]) (xXC Z (.ok (some (.int z))) h1) (xfree Z) := by
  intro T hT X
  obtain ⟨hif, hnm, hsam, hsx, wd, wf, hpar1⟩ := hwh
  -- the start's facts
  obtain ⟨c, one, hat⟩ := xlam_at hi C.G
  have hat2 := hat
  unfold xlamAt at hat
  obtain ⟨mD, kD, cfD, i0, p0, lk, hmD, hkD, -, -, -, -, hmade, hcan, -⟩ := State.lambdaAt?_spec hat
  obtain ⟨kD', hkD', hnameD⟩ := className_of_methodNamed hmD
  cases hkD.symm.trans hkD'
  have hcls : Z.1.2.2 (100 + i) = c := by
    rw [C.G.2.2.2.2.2 i]
    unfold xlamC
    rw [hat2]
    rfl
  have hcell : T.heap[a]? = some { cls := c, slots := vals.toArray, vm := .none } := by
    rw [hT]
    have h9 := (q2.2.2.2.2.2 a _ ha).1
    unfold xWk at h9
    dsimp only at h9
    rw [if_neg (by omega), hcls] at h9
    exact h9
  -- at the method's start
  have hA := C.W.alike
  have hOw := C.G.2.1 _ (lw_at lw_m9 111 rfl : Cond.instantiable "java/lang/Object" 0 ∈ lw_tbl)
  have hO : ∀ vm : Vm, Z.2.1.vm.Alike vm → ∀ o ok, vm.findClass "java/lang/Object" = some o → vm.classes[o]? = some ok → ok.instanceTypes.size = 0 := by
    intro vm hvm o ok ho hok
    obtain ⟨cO, kO, hfO, hkO, -, -, -, hsz⟩ := Cond.instantiable_spec hOw
    rw [hvm.findClass, hfO] at ho
    cases ho
    obtain ⟨k', hk', he⟩ := hvm.2.2 _ _ hkO
    cases hk'.symm.trans hok
    rw [he]
    exact hsz
  obtain ⟨r0, r, hn, hrm, hstR, hsigR⟩ := Cond.declares_spec (C.G.2.1 _ wd)
  obtain ⟨cL, kL, r1, hcL, hkL, hiL, hfoundL, hn1⟩ := Cond.interfaceMethod_spec (C.G.2.1 _ wf)
  cases hn.symm.trans hn1
  have hr0cls : r0.cls = cL := Option.some.inj ((findClass_of_methodNamed hn).symm.trans hcL)
  obtain ⟨hnameR, hdescR⟩ := name_of_methodNamed hn hrm
  have hpar : r.sig.parameters.length = 1 := by
    rw [hsigR] at hpar1
    exact Option.some.inj hpar1
  obtain ⟨kDS, hkDS, heDS⟩ := hA.2.2 _ _ hkD
  obtain ⟨kS, tkS, fileS, methS, ckS, toyS, ifS, tS, foundS, ⟨hkS, -, -, -⟩, ⟨hmS, -, -, -, -, hflS, -⟩, -, -, -, -, ⟨hifS, hfoundS, hselS⟩⟩ := xf_made hi hkDS (by rw [heDS]; exact hnameD) (Lambda.isMade_warmer C.W hmade) (hO _ hA)
  have hcLS : κ.2.2.2.1.vm.findClass (ySam which).cls = some cL := by rw [hA.findClass]; exact hcL
  obtain ⟨kLS, hkLS, heLS⟩ := hA.2.2 _ _ hkL
  have hiLS : kLS.isInterface = true := by rw [heLS]; exact hiL
  rw [hif] at hifS
  cases hcLS.symm.trans hifS
  rw [hnm, hsam] at hfoundS
  have hfr : foundS = r0 := by
    have h1 : (Z.2.1.setVm κ.2.2.2.1.vm).methodFound? (ySam which).cls (ySam which).name (ySam which).desc = some r0 := by rw [State.methodFound?_setVm hA]; exact hfoundL
    simp only [State.methodFound?, State.vm_setVm, hcLS, hkLS, hiLS, Option.bind_eq_bind, Option.bind_some] at h1
    rw [hfoundS] at h1
    exact Option.some.inj h1
  subst hfr
  have hnS : κ.2.2.2.1.methodNamed? (ySam which) = some foundS := by
    have := State.methodNamed?_setVm (s := Z.2.1) hA (ySam which)
    rw [hn] at this
    exact this
  have hrmS : κ.2.2.2.1.vm.method? foundS = some r := by rw [hA.method?]; exact hrm
  have hcanS : κ.2.2.2.1.lambdaCallable (xlam i).2.2.2 c = true := by
    simp only [State.lambdaCallable, hA.findClass, hA.assignable, hA.superclasses, hA.declaredIn] at hcan ⊢
    exact hcan
  obtain ⟨i2, hi2, hasg, hway⟩ := State.lambdaCallable_spec hcanS
  rw [hif] at hi2
  cases hcLS.symm.trans hi2
  have hsz : (F0 κ.2.2.2.2.1 pc ls rest).locals.size = κ.2.2.2.2.2.2.2.2.maxLocals := by show ls.size = _; rw [hls, C.2.2.1]
  have hdg : decode κ.2.2.2.2.2.2.2.2.code pc = .ok (.invokeinterface index 2, 5) := by rw [C.2.1]; exact d
  obtain ⟨vm₁, X₁, hstep₁⟩ := X.invokeinterface C.1 C.own (C.ws _ hlink) hnS hrmS hstR (by rw [hr0cls]; exact hkLS) hiLS hsx (a := a) (cell := { cls := c, slots := vals.toArray, vm := .none }) (kcell := kS) hcell (fun z h => nomatch h) hkS (by rw [hr0cls]; exact hasg)
    (m' := ⟨c, 1⟩) (meth' := methS) (by rw [Launch.admits_selectMethod X.admits]; exact hselS) hmS (by rw [hnameR, hdescR, ← hnm, ← hsam]; exact hway) (by rw [hflS]; decide) (by simp [Method.isAbstract, hflS, hasFlag, Acc.abstract])
    (g := F0 κ.2.2.2.2.1 pc ls (va_rf x :: va_rf (some a) :: rest)) rfl (argsL := [va_rf x]) (rest := rest) (by rw [hpar]; rfl) rfl hdg
  have hW₁ : κ.2.2.2.1.WarmedH vm₁ := X₁.warmed
  have hW0 : Z.2.1.WarmedH vm₁ := State.WarmedH.trans C.W hW₁
  obtain ⟨kD1, hkD1, heD1⟩ := hW0.alike.2.2 _ _ hkD
  obtain ⟨k1, tk1, file1, meth1, ck1, toy1, if1, t1, found1, ⟨hk1, hkn1, hfile1, hpool1⟩, ⟨hmk1, hck1, hbytes1, hml1, hlk1, -, hret1⟩, ⟨htoy1, htk1, hlook1⟩, ⟨hready1, hcls1⟩, hf0, hf1, -⟩ := xf_made hi hkD1 (by rw [heD1]; exact hnameD) (Lambda.isMade_warmer hW0 hmade) (hO _ hW0.alike)
  -- the target
  subst hy
  dsimp only at hyc
  have hcw := C.ws _ (hw _ List.mem_cons_self).1
  obtain ⟨mT, hmT⟩ := Cond.code_named hcw
  obtain ⟨methT, cT, hmethT, hcT, hbytesT, hlocT, hretT, hlocksT, -, hsigT⟩ := Cond.code_spec hmT hcw
  have hstaticT : methT.isStatic = true := Cond.static_spec hmT hmethT (C.ws _ w1)
  obtain ⟨kT, hkT, hnameT⟩ := className_of_methodNamed hmT
  have hfT : κ.2.2.2.1.vm.findClass (xlam i).2.2.2.implClass = some mT.cls := findClass_of_methodNamed hmT
  have hinitK : kT.init = .initialized := Cond.initialized_spec hfT hkT (C.ws _ w2)
  have hparT : methT.sig.parameters.length = xfk i + 1 := by
    have h8 := hyc.2
    rw [hsigT] at h8
    exact Option.some.inj h8
  have hfT1 : vm₁.findClass (xlam i).2.2.2.implClass = some mT.cls := by rw [hW₁.alike.findClass]; exact hfT
  cases htoy1.symm.trans hfT1
  have ht1 : t1 = mT := by
    have h1 : (κ.2.2.2.1.setVm vm₁).methodFound? (xlam i).2.2.2.implClass (xlam i).2.2.2.implName (xlam i).2.2.2.implDesc.toString = some mT := by
      rw [State.methodFound?_setVm hW₁.alike]
      exact State.methodFound?_of_named hmT hyc.1
    simp only [State.methodFound?, State.vm_setVm, hfT1, htk1, Option.bind_eq_bind, Option.bind_some] at h1
    rw [hlook1] at h1
    exact Option.some.inj h1
  subst ht1
  have hmethT1 : vm₁.method? t1 = some methT := by rw [hW₁.alike.method?]; exact hmethT
  obtain ⟨kT1, hkT1, heT1⟩ := hW₁.alike.2.2 _ _ hkT
  cases htk1.symm.trans hkT1
  have hnmT : tk1.name ≠ "java/lang/invoke/MethodHandle" ∧ tk1.name ≠ "java/lang/invoke/VarHandle" := by
    have h8 : tk1.name = (xlam i).2.2.2.implClass := by rw [heT1]; exact hnameT
    rw [h8]
    exact hyc.1
  have hsp : ∀ y : Method, signaturePolymorphic tk1 y = false := fun y => by simp [signaturePolymorphic, hnmT.1, hnmT.2]
  have eM := xf_eM i hi
  obtain ⟨b9, hmem⟩ := memberRef_ask' (e := κ.2.2.1) (vm := vm₁) (d := c) (index := (xfN i).1) hk1 hfile1 (Or.inl (by rw [hpool1]; exact eM.1)) (by rw [hpool1]; exact eM.2.2)
  have hpk : (T.setVm vm₁).plainMethod ⟨c, 1⟩ := State.plainMethod.of_name (fun k' hk' => by
    cases hk1.symm.trans hk'
    rw [hkn1, heD1]
    show plainName (kD.name ++ "$$Lambda") = true
    rw [hnameD]
    exact hpl)
  obtain ⟨Y₀, hin⟩ := X₁.into (g := F0 κ.2.2.2.2.1 pc ls rest) rfl hsz hdg #[.ref a, va_rf x] (R' := { frames := fr + 1, cells := h1.2.1 - h.2.1, slots := h1.2.2.1 - h.2.2.1, locals := 8 + (yn + 11) + lo }) hmk1 hck1 hlk1 hpk
    (by rw [q6, hμ]; exact hF) (by
      rw [hml1, q7, hμ]
      show 2 * 0 + (rest.map fun v => v.category).sum + (2 + 11) + (8 + (yn + 11) + lo) ≤ lo0
      omega) q8 q9
  generalize hU : ((T.setVm vm₁).setTop (F0 κ.2.2.2.2.1 pc ls rest)).pushFrame (.java (entryFrame ⟨c, 1⟩ #[.ref a, va_rf x] ck1.maxLocals)) = U at Y₀ hin
  have hvm : U.vm = vm₁ := by rw [← hU]; rfl
  have hheap : U.heap = H := by rw [← hU, ← hT]; rfl
  obtain ⟨pc9, dA, dB, go⟩ := xf_walk (x := x) hi Y₀ C.1 hbytes1 hml1 hk (by rw [hheap, ← hT]; exact hcell) (by rw [hvm]; exact hf0) (by rw [hvm]; exact hf1)
    (t := t1) (kt := tk1) (metht := methT) ⟨(xfN i).2.1, _, _, b9, t1.cls, tk1, by rw [hvm]; exact hmem, by rw [hvm]; exact hcls1, by rw [hvm]; exact htk1, by simp [hsp]⟩ (by rw [hvm]; exact hready1) (by rw [hvm]; exact htk1) (by rw [hvm]; exact hmethT1) (hsp _) hstaticT (by rw [heT1]; exact hinitK) hparT
  have hM' := hM
  rw [← C.l] at hM'
  have hcode9 : Cond.code ⟨(xlam i).2.2.2.implClass, (xlam i).2.2.2.implName, (xlam i).2.2.2.implDesc.toString⟩ yc yn yr ∈ ws_ ⟨(xlam i).2.2.2.implClass, (xlam i).2.2.2.implName, (xlam i).2.2.2.implDesc.toString⟩ yc yn yr := List.mem_cons_self
  have hS9 : ((T.setVm vm₁).calling (F0 κ.2.2.2.2.1 pc ls rest) ⟨c, 1⟩ #[.ref a, va_rf x]).vm = vm₁ := rfl
  have hB9 := vx_back (l := κ.2.1) (R := { frames := fr + 1, cells := h1.2.1 - h.2.1, slots := h1.2.2.1 - h.2.2.1, locals := 8 + (yn + 11) + lo }) (p := κ.1) (e := κ.2.2.1) (below := .java (F0 κ.2.2.2.2.1 pc ls rest) :: κ.2.2.2.2.2.2.1) (s := (T.setVm vm₁).calling (F0 κ.2.2.2.2.1 pc ls rest) ⟨c, 1⟩ #[.ref a, va_rf x]) (sargs := #[.ref a, va_rf x]) (len := 3) (W9 := 8) hM' xcall_pre rfl rfl (Nat.le_refl _) (Nat.le_refl _)
    (fun w hw9 a' U9 hU9 => pay_in C.ws hw w hw9 a' U9 (State.WarmedH.trans hW₁ hU9)) hcode9 (fun a' U9 hU9 => word_at (State.WarmedH.trans hW₁ hU9) (Or.inl (by first | rfl | simp [Cond.onTables, Cond.keeps, Cond.steady])) (C.ws _ w2))
  have hnamedU : U.methodNamed? ⟨(xlam i).2.2.2.implClass, (xlam i).2.2.2.implName, (xlam i).2.2.2.implDesc.toString⟩ = some t1 := by
    have h8 := State.methodNamed?_setVm (s := κ.2.2.2.1) hW₁.alike ⟨(xlam i).2.2.2.implClass, (xlam i).2.2.2.implName, (xlam i).2.2.2.implDesc.toString⟩
    rw [hmT] at h8
    have h7 : U.methodNamed? ⟨(xlam i).2.2.2.implClass, (xlam i).2.2.2.implName, (xlam i).2.2.2.implDesc.toString⟩ = (κ.2.2.2.1.setVm vm₁).methodNamed? ⟨(xlam i).2.2.2.implClass, (xlam i).2.2.2.implName, (xlam i).2.2.2.implDesc.toString⟩ := by
      unfold State.methodNamed?
      rw [hvm]
      rfl
    rw [h7]
    exact h8
  have hsz9 : ({ method := ⟨c, 1⟩, pc := pc9, locals := #[.val (.ref a), .val (va_rf x)], stack := [], locked := none } : JFrame).locals.size = ck1.maxLocals := by rw [hml1]; rfl
  have hpre : PreOf { frames := fr + 1, cells := h1.2.1 - h.2.1, slots := h1.2.2.1 - h.2.2.1, locals := 8 + (yn + 11) + lo } (h1.2.1 - h.2.1) (h1.2.2.1 - h.2.2.1) (xPc Z (vals ++ [va_rf x]) h) ⟨U, [], 0, 0⟩ (vals ++ [va_rf x]).toArray :=
    ⟨Nat.le_of_eq (Nat.zero_add _), Nat.le_of_eq (Nat.zero_add _), rfl, by show Z.2.1.WarmedH U.vm; rw [hvm]; exact hW0, by show xRel Z h U.heap; rw [hheap]; exact q2⟩
  rcases hB9 ⟨c, 1⟩ meth1 ck1 ⟨U, [], 0, 0⟩ { method := ⟨c, 1⟩, pc := pc9, locals := #[.val (.ref a), .val (va_rf x)], stack := [], locked := none } (.invokestatic (xfN i).1) t1 (vals ++ [va_rf x]).toArray Y₀ rfl hsz9 dA (Nat.zero_le _) hnamedU hpre with ⟨v, B, YB, hpost, hsteps⟩ | ⟨q, B, YB, hpost, hsteps⟩
  · obtain ⟨g', mk', t9, L, e1, e2, ⟨v9, hv9, ho9, hrel⟩, hloc9, hL9, hc9, hs9⟩ := hpost
    cases hv9
    cases ho9
    obtain ⟨UB, LB, cB, sB⟩ := B
    dsimp only [Pt.U, Pt.locs, Pt.cells, Pt.slots] at YB e1 e2 hloc9 hc9 hs9 hsteps
    rw [Nat.zero_add] at hc9 hs9
    rw [List.nil_append] at hloc9
    subst hloc9
    subst hc9
    subst hs9
    obtain ⟨fs, hleave, -, hended, hWe, hsame⟩ := YB.leave (v := some (.int z)) (fun h => by rw [hret1] at h; rcases hz with hz | hz <;> simp [hz] at h) hlk1
    obtain ⟨T', X', hW', -, ht⟩ := X₁.outOf (g := F0 κ.2.2.2.2.1 pc ls rest) rfl hdg hended hWe hsame
    have hh' : T'.heap = t9.heap := by
      rw [← e1]
      have : (UB.setFrames fs).heap = T'.heap := by rw [ht]; rfl
      rw [← this]
      rfl
    refine Or.inl ⟨some (.int z), T, T', T', LB, hT, X', hL9, rfl, rfl, ⟨some (.int z), rfl, rfl, by rw [hh']; exact hrel⟩, fun target hgo => ?_⟩
    refine hstep₁ _ fun acts => ?_
    have hgo2 : Steps κ.1.tables κ.2.2.1 κ.2.2.2.2.2.2.1 (UB.setFrames fs) target := by rw [ht]; exact hgo
    refine Steps.trans (s₂ := UB.setFrames fs) ?_ hgo2
    have hin9 := hin acts
    show Steps κ.1.tables κ.2.2.1 κ.2.2.2.2.2.2.1 (doInvoke κ.2.2.1 ((T.setVm vm₁).setTop (F0 κ.2.2.2.2.1 pc ls rest)) acts ⟨c, 1⟩ #[.ref a, va_rf x]).1 _
    rw [hin9]
    refine xsteps_weaken (mid := [.java (F0 κ.2.2.2.2.1 pc ls rest)]) (go _ fun acts2 => ?_)
    rw [doInvoke_state]
    refine hsteps.trans ?_
    show Steps κ.1.tables κ.2.2.1 (.java (F0 κ.2.2.2.2.1 pc ls rest) :: κ.2.2.2.2.2.2.1) (UB.setTop { method := ⟨c, 1⟩, pc := pc9 + 3, locals := #[.val (.ref a), .val (va_rf x)], stack := [.int z], locked := none }) _
    have hmB : UB.vm.method? ⟨c, 1⟩ = some meth1 := YB.method'
    have htop : UB.topJava?.isSome := YB.here.top
    rcases hz with hz | ⟨hz, rfl | rfl⟩
    · rw [hz] at hret1
      jvm_step YB.here [htop, C.1, dB, hmB, hret1, narrow]
      intro acts3
      rw [hleave { method := ⟨c, 1⟩, pc := pc9 + 3, locals := #[.val (.ref a), .val (va_rf x)], stack := [], locked := none } acts3 rfl rfl rfl]
      exact Steps.refl _
    · rw [hz] at hret1
      jvm_step YB.here [htop, C.1, dB, hmB, hret1, narrow_b0]
      (try refine ⟨rfl, ?_⟩); (try refine ⟨rfl, ?_⟩)
      intro acts3
      rw [hleave { method := ⟨c, 1⟩, pc := pc9 + 3, locals := #[.val (.ref a), .val (va_rf x)], stack := [], locked := none } acts3 rfl rfl rfl]
      exact Steps.refl _
    · rw [hz] at hret1
      jvm_step YB.here [htop, C.1, dB, hmB, hret1, narrow_b1]
      (try refine ⟨rfl, ?_⟩); (try refine ⟨rfl, ?_⟩)
      intro acts3
      rw [hleave { method := ⟨c, 1⟩, pc := pc9 + 3, locals := #[.val (.ref a), .val (va_rf x)], stack := [], locked := none } acts3 rfl rfl rfl]
      exact Steps.refl _
  · obtain ⟨g', mk', t9, L, E, ce, -, -, ⟨hx, -⟩, -⟩ := hpost
    cases hx
end XLD
/-- a lambda's answer: an int; a truth value where the interface's method answers one -/
def xok (w : Nat) (pr : XM) : XM := fun h => match pr h with
  | some (.ok (some (.int z)), h1) => if w = 1 ∨ z = 0 ∨ z = 1 then some (.ok (some (.int z)), h1) else none
  | _ => none
def xobjOf (h : XH) (r : Option Nat) : Option (Nat × List Value) := match r with
  | none => none
  | some a => match h.1 a with
    | some (.inr o) => some o
    | _ => none
def xas0 (vs : List Value) (k : XM) : XM := match vs with
  | [] => k
  | _ => xfail
def xasI (vs : List Value) (k : Int32 → XM) : XM := match vs with
  | [.int z] => k z
  | _ => xfail
def xasR (v : Value) : Option (Option Nat) := match v with
  | .null => some none
  | .ref a => some (some a)
  | _ => none
def xas1 (vs : List Value) (k : Option Nat → XM) : XM := match vs with
  | [u] => (match xasR u with
    | some a => k a
    | none => xfail)
  | _ => xfail
def xas2 (vs : List Value) (k : Option Nat → Option Nat → XM) : XM := match vs with
  | [u, v] => (match xasR u with
    | some a => (match xasR v with
      | some b => k a b
      | none => xfail)
    | none => xfail)
  | _ => xfail
theorem xasR_some {v : Value} {a : Option Nat} (h : xasR v = some a) : v = va_rf a := by
  cases v <;> simp [xasR] at h <;> subst h <;> rfl
theorem xas0_some {vs : List Value} {k : XM} {h : XH} {y : XO × XH} (e : xas0 vs k h = some y) : vs = [] ∧ k h = some y := by
  unfold xas0 at e
  split at e
  · exact ⟨rfl, e⟩
  · cases e
theorem xasI_some {vs : List Value} {k : Int32 → XM} {h : XH} {y : XO × XH} (e : xasI vs k h = some y) : ∃ z, vs = [.int z] ∧ k z h = some y := by
  unfold xasI at e
  split at e
  · exact ⟨_, rfl, e⟩
  · cases e
theorem xas1_some {vs : List Value} {k : Option Nat → XM} {h : XH} {y : XO × XH} (e : xas1 vs k h = some y) : ∃ a, vs = [va_rf a] ∧ k a h = some y := by
  match vs, e with
  | [u], e =>
    cases hu : xasR u with
    | none => simp [xas1, hu, xfail] at e
    | some a =>
      simp only [xas1, hu] at e
      exact ⟨a, by rw [xasR_some hu], e⟩
theorem xas2_some {vs : List Value} {k : Option Nat → Option Nat → XM} {h : XH} {y : XO × XH} (e : xas2 vs k h = some y) : ∃ a b, vs = [va_rf a, va_rf b] ∧ k a b h = some y := by
  match vs, e with
  | [u, v], e =>
    cases hu : xasR u with
    | none => simp [xas2, hu, xfail] at e
    | some a =>
      cases hv : xasR v with
      | none => simp [xas2, hu, hv, xfail] at e
      | some b =>
        simp only [xas2, hu, hv] at e
        exact ⟨a, b, by rw [xasR_some hu, xasR_some hv], e⟩
theorem xobjOf_some {h : XH} {r : Option Nat} {o : Nat × List Value} (e : xobjOf h r = some o) : ∃ a, r = some a ∧ h.1 a = some (.inr o) := by
  unfold xobjOf at e
  split at e
  · cases e
  · rename_i a
    split at e
    · rename_i o' ho
      cases e
      exact ⟨a, rfl, ho⟩
    · cases e
theorem xok_some {w : Nat} {pr : XM} {h h1 : XH} {o : XO} (e : xok w pr h = some (o, h1)) : ∃ z : Int32, o = .ok (some (.int z)) ∧ pr h = some (.ok (some (.int z)), h1) ∧ (w = 1 ∨ z = 0 ∨ z = 1) := by
  unfold xok at e
  split at e
  · rename_i z h2 hp
    split at e
    · rename_i hc
      cases e
      exact ⟨z, rfl, hp, hc⟩
    · cases e
  · cases e
section XLE
variable {Z : XZ} {κ : XK} {μ : XU} {δ : XT} {pc : Nat} {ls : Array Slot} {rest : List Value} {index fr lo fr0 lo0 yn : Nat} {y : MethodName} {yc : ByteArray} {yr : Option FieldType} {x : Option Nat} {tp : XM}
theorem xf_case {i which : Nat} (hi : i < 13) (hwh : xSamOk i which) (hy : y = ⟨(xlam i).2.2.2.implClass, (xlam i).2.2.2.implName, (xlam i).2.2.2.implDesc.toString⟩)
    (hyc : (y.cls ≠ "java/lang/invoke/MethodHandle" ∧ y.cls ≠ "java/lang/invoke/VarHandle") ∧ (parseMethodDescriptor y.desc).map (fun d => d.parameters.length) = some (xfk i + 1)) (hpl : plainName ((xlam i).1.cls ++ "$$Lambda") = true)
    {vals : List Value} (hk : vals.length = xfk i) (hw : GoodIn lw_all (ws_ y yc yn yr)) (w1 : Cond.static y ∈ lw_all) (w2 : Cond.initialized y.cls ∈ lw_all) (hsr : ((xlam i).2.2.2.sam.returnType = some .int ∧ which = 1) ∨ ((xlam i).2.2.2.sam.returnType = some .boolean ∧ which = 0))
    (hM : xMet Z y yc yn yr fr lo (vals ++ [va_rf x]) tp)
    (hlink : Cond.methodLink δ.2.2.1 index (ySam which) ∈ lw_all) (d : decode δ.1 pc = .ok (.invokeinterface index 2, 5)) (hμ : μ.2.2 = (fr0, lo0)) (hF : fr + 2 ≤ fr0) (hL : 21 + (8 + (yn + 11) + lo) ≤ lo0) (hW : (rest.map fun v => v.category).sum ≤ 8) (hls : ls.size = δ.2.1)
    {a : Nat} {h h1 : XH} {o : XO} (ha : h.1 a = some (.inr (100 + i, vals))) (e : xok which tp h = some (o, h1)) : xMono h h1 ∧
  ∀ (H : Heap) (locs : List Loc) (cells slots : Nat) (R : Room), xC Z κ δ → xRel Z h H → R.frames = μ.2.2.1 → R.locals = μ.2.2.2 → cells + (h1.2.1 - h.2.1) ≤ R.cells → slots + (h1.2.2.1 - h.2.2.1) ≤ R.slots →
    ∃ ar : Array Value, vx_Run5 κ.1 κ.2.1 κ.2.2.1 R κ.2.2.2.1 κ.2.2.2.2.1 κ.2.2.2.2.2.1 κ.2.2.2.2.2.2.1 κ.2.2.2.2.2.2.2.1 κ.2.2.2.2.2.2.2.2 H locs cells slots (h1.2.1 - h.2.1) (h1.2.2.1 - h.2.2.1) (F0 κ.2.2.2.2.1 pc ls (va_rf x :: va_rf (some a) :: rest)) rest (xQc Z o h1 ar) (xXC Z o h1) (xfree Z) := by
  obtain ⟨z, rfl, e2, hz⟩ := xok_some e
  obtain ⟨m, met⟩ := hM h _ h1 e2
  refine ⟨m, fun H locs cells slots R C q2 q6 q7 q8 q9 => ⟨#[], xf_run hi hwh hy hyc hpl hk hw w1 w2 hlink d hμ hF hL hW hls ha (met C.G) ?_ H locs cells slots R C q2 q6 q7 q8 q9⟩⟩
  rcases hsr with ⟨h1, rfl⟩ | ⟨h1, rfl⟩
  · exact Or.inl h1
  · refine Or.inr ⟨h1, ?_⟩
    rcases hz with hz | hz | hz
    · cases hz
    · exact Or.inl hz
    · exact Or.inr hz
end XLE
theorem xsam_ok (i which : Nat) (h1 : (xlam i).2.2.2.iface = (ySam which).cls ∧ (xlam i).2.2.2.name = (ySam which).name ∧ (xlam i).2.2.2.sam.toString = (ySam which).desc) (hw : which = 0 ∨ which = 1) : xSamOk i which := by
  obtain ⟨a, b, c⟩ := h1
  refine ⟨a, b, c, ?_⟩
  rcases hw with rfl | rfl
  · exact ⟨by decide, q408, q407, by decide +kernel⟩
  · exact ⟨by decide, q1326, q1325, by decide +kernel⟩
theorem xg_a (a b : Nat) (h : 22 ≤ b) : 22 + a ≤ a + b := by omega
theorem xg_b {a l : Nat} (h : 21 + (8 + (3 + 11) + a) ≤ l) : 21 + (8 + (2 + 11) + a) ≤ l := by omega
