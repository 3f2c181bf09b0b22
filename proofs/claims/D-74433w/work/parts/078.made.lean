/-! what the sites' rule has made, at any state of the run -/
theorem xf_made {i : Nat} (hi : i < 13) {vm : Vm} {d c : ClassId} {dk : Class} (hd : vm.classes[d]? = some dk) (hname : dk.name = (xlam i).1.cls) (h : Lambda.isMade { classPath := fun _ => none } vm d (xlam i).2.2.2 c = true)
    (hO : ∀ o ok, vm.findClass "java/lang/Object" = some o → vm.classes[o]? = some ok → ok.instanceTypes.size = 0) :
    ∃ (k tk : Class) (file : ClassFile) (methk : Method) (ck : Code) (toy iface : ClassId) (t found : MethodId),
      (vm.classes[c]? = some k ∧ k.name = dk.name ++ "$$Lambda" ∧ k.cf = some file ∧ file.constantPool = (xfD i).constantPool) ∧
      (vm.method? ⟨c, 1⟩ = some methk ∧ methk.code = some ck ∧ ck.code = xfB i ∧ ck.maxLocals = 2 ∧ methk.locks = false ∧ methk.accessFlags = 0x0001 ∧ methk.sig.returnType = (xlam i).2.2.2.sam.returnType) ∧
      (vm.findClass (xlam i).2.2.2.implClass = some toy ∧ vm.classes[toy]? = some tk ∧ ((methodIn toy (xlam i).2.2.2.implName (xlam i).2.2.2.implDesc.toString tk.isInterface none).ask { classPath := fun _ => none } vm).1 = .ok t) ∧
      (vm.methodReady c (xfN i).1 t ∧ vm.classReady c (xfN i).2.1 toy) ∧
      (1 ≤ xfk i → ∃ g0, vm.fieldReady c (xfF i 0) c g0 ∧ g0.isStatic = false ∧ g0.slot = 0) ∧ (2 ≤ xfk i → ∃ g0, vm.fieldReady c (xfF i 1) c g0 ∧ g0.isStatic = false ∧ g0.slot = 1) ∧
      (vm.findClass (xlam i).2.2.2.iface = some iface ∧ ((methodIn iface (xlam i).2.2.2.name (xlam i).2.2.2.sam.toString true none).ask { classPath := fun _ => none } vm).1 = .ok found ∧ selectMethod {} vm c found = .method ⟨c, 1⟩) := by
  obtain ⟨dk', k, ok, tk, file, cf, object, iface, toy, lay, methods, target, found, hd', hk, hfile, hcf, hobj, hif, hok, hlay, hms, ht, htk, hg, hg2, hrec, -, -, -, hitf, hpool, hmeth, hfields, hty, hres, hsel⟩ := Lambda.isMade_spec h
  cases hd.symm.trans hd'
  rw [hname, xf_file hi] at hcf
  cases hcf
  rw [hO object ok hobj hok, xf_laid hi] at hlay
  cases hlay
  obtain ⟨b, hb, hsame⟩ := hmeth 1 (xfM i) (xf_second hi methods hms)
  simp only [Lambda.sameMethod, Bool.and_eq_true, decide_eq_true_eq] at hsame
  obtain ⟨⟨hn, -, hsig, hfl⟩, hcode⟩ := hsame
  have fc := xf_code i hi
  have ff := xf_flags i hi
  simp only [Prod.mk.injEq] at ff
  have eM := xf_eM i hi
  have eC := xf_eC i hi
  cases hfc : (xfM i).code with
  | none => rw [hfc] at fc; cases fc
  | some x =>
    cases hbc : b.code with
    | none => simp [hfc, hbc] at hcode
    | some y =>
      simp only [hfc, hbc, Bool.and_eq_true, decide_eq_true_eq] at hcode
      simp only [hfc, Option.map_some, Option.some.injEq, Prod.mk.injEq] at fc
      refine ⟨k, tk, file, b, y, toy, iface, target, found, ⟨hk, hrec.1, hfile, hpool.2.1⟩, ⟨by simp [Vm.method?, hk, hb], hbc, ?_, by rw [← hcode.1.1.1.1.2.1]; exact fc.2, ?_, by rw [← hfl]; exact ff.1, by rw [← hsig]; exact ff.2⟩, ⟨ht, htk, hg⟩,
        ⟨⟨k, hk, hres _ _ (Lambda.resolvedOf_method eM.1 eM.2.1 ht htk eM.2.2 hg)⟩, ⟨k, hk, hres _ _ (Lambda.resolvedOf_class eC.1 eC.2.2 eC.2.1 ht)⟩⟩, fun h1 => ?_, fun h1 => ?_, ⟨hif, hg2, hsel⟩⟩
      · rw [← hcode.1.1.1.1.2.2]
        exact ByteArray.ext fc.1
      · simp [Method.locks, Method.isSynchronized, ← hfl, ff.1, hasFlag, Acc.synchronized]
      · have eF0 := xf_f0 i hi h1
        obtain ⟨g0, hg0, hp0⟩ := Option.map_eq_some_iff.mp eF0.2.2.2
        simp only [Prod.mk.injEq] at hp0
        exact ⟨g0, ⟨k, 0, k, hk, hres _ _ (Lambda.resolvedOf_field eF0.1 eF0.2.1 eF0.2.2.1), hk, hfields 0 _ hg0⟩, hp0.1, hp0.2⟩
      · have eF0 := xf_f1 i hi h1
        obtain ⟨g0, hg0, hp0⟩ := Option.map_eq_some_iff.mp eF0.2.2.2
        simp only [Prod.mk.injEq] at hp0
        exact ⟨g0, ⟨k, 1, k, hk, hres _ _ (Lambda.resolvedOf_field eF0.1 eF0.2.1 eF0.2.2.1), hk, hfields 1 _ hg0⟩, hp0.1, hp0.2⟩
