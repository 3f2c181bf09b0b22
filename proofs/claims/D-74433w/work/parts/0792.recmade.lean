/-! the made method, at the start's tables and later -/
theorem xr_made {vm : Vm} {d c : ClassId} (h : Record.isMade { classPath := fun _ => none } vm d xrsh c = true) :
    ∃ (dk k : Class) (file : ClassFile) (methk : Method) (ck : Code), vm.classes[d]? = some dk ∧ dk.name = "PetitionDesk$Voter" ∧ vm.classes[c]? = some k ∧ k.name = Record.selfName "PetitionDesk$Voter" ∧ k.cf = some file ∧ file.constantPool = xrD.constantPool ∧
      vm.method? ⟨c, 0⟩ = some methk ∧ methk.code = some ck ∧ ck.code = xrB ∧ ck.maxLocals = 203 ∧ methk.locks = false ∧ methk.sig.returnType = some .boolean ∧
      (∀ (i : Nat) x, (Record.resolvedOf { classPath := fun _ => none } vm xrD d c)[i]? = some (some x) → k.resolved[i]? = some (some x)) ∧
      (∀ (i a b : Nat), (xrD.constantPool[i]? = some (.fieldref a b) ∨ xrD.constantPool[i]? = some (.methodref a b)) → ∃ x, (Record.resolvedOf { classPath := fun _ => none } vm xrD d c)[i]? = some (some x)) := by
  simp only [Record.isMade, Option.bind_eq_bind, Option.pure_def, Option.getD_eq_iff, Option.bind_eq_some_iff, Bool.false_eq_true, and_false, or_false] at h
  obtain ⟨dk, h2, k, h3, file, h4, cf, h5, object, ho, ok, h6, methods, h8, h⟩ := h
  simp only [Option.some.injEq, Bool.and_eq_true, decide_eq_true_eq, beq_iff_eq, Option.isNone_iff_eq_none] at h
  obtain ⟨⟨⟨⟨⟨⟨⟨⟨⟨⟨⟨⟨b1, b2⟩, b3⟩, b4⟩, -⟩, -⟩, -⟩, b6⟩, b7⟩, b8⟩, b9⟩, b10⟩, b11⟩ := h
  have hcf : cf = xrD := by
    unfold xrD
    rw [h5]
    rfl
  subst hcf
  obtain ⟨z, hz⟩ := Option.isSome_iff_exists.mp xr_meth0
  have hM : xrM = z := by unfold xrM; rw [hz]; rfl
  rw [h8] at hz
  have hz' : methods[0]? = some z := by simpa using hz
  have hlt : 0 < k.methods.size := by rw [← b7]; exact (Array.getElem?_eq_some_iff.mp hz').1
  have hb : k.methods[0]? = some k.methods[0] := Array.getElem?_eq_getElem hlt
  have hsm : Record.sameMethod z k.methods[0] = true := Lambda.zip_all b8 hz' hb
  unfold Record.sameMethod at hsm
  rw [← hM] at hsm
  cases ha : xrM.code with
  | none => simp [ha] at hsm
  | some x =>
    cases hbc : (k.methods[0]).code with
    | none => simp [ha, hbc] at hsm
    | some y =>
      simp only [ha, hbc, Bool.and_eq_true, decide_eq_true_eq, Array.isEmpty_iff] at hsm
      obtain ⟨⟨s1, s2, s3, s4⟩, ⟨⟨⟨c1, c2, c3⟩, -⟩, c5⟩, -⟩ := hsm
      have f1 := xr_f1
      have f3 := xr_f3
      have f10 := xr_f10
      rw [ha] at f1 f3
      simp only [Option.map_some, Option.some.injEq] at f1 f3
      refine ⟨dk, k, file, k.methods[0], y, h2, b1.1, h3, b1.2.1, h4, b6.2.1, by simp [Vm.method?, h3, hb], hbc, by rw [← c3]; exact ByteArray.ext f3, by rw [← c2]; exact f1, ?_, by rw [← s3]; exact f10.2.1, fun i x hx => ?_, fun i a b hi => ?_⟩
      · simp [Method.locks, Method.isSynchronized, ← s4, f10.1, hasFlag, Acc.synchronized]
      · rw [List.all_eq_true] at b10
        have := b10 (some x, i) (by rw [List.mem_zipIdx_iff_getElem?]; simpa using hx)
        simpa using this
      · rw [List.all_eq_true] at b11
        have hlt2 : i < (Record.resolvedOf { classPath := fun _ => none } vm xrD d c).size := by
          have : i < xrD.constantPool.size := by rcases hi with hi | hi <;> exact (Array.getElem?_eq_some_iff.mp hi).1
          simpa [Record.resolvedOf] using this
        have h9 : (Record.resolvedOf { classPath := fun _ => none } vm xrD d c)[i]? = some (Record.resolvedOf { classPath := fun _ => none } vm xrD d c)[i] := Array.getElem?_eq_getElem hlt2
        have := b11 ((Record.resolvedOf { classPath := fun _ => none } vm xrD d c)[i], i) (by rw [List.mem_zipIdx_iff_getElem?]; simpa using h9)
        have this : ((Record.resolvedOf { classPath := fun _ => none } vm xrD d c)[i]).isSome = true := by
          rcases hi with hi | hi <;> simpa [hi] using this
        obtain ⟨x, hx⟩ := Option.isSome_iff_exists.mp this
        exact ⟨x, by rw [h9, hx]⟩
theorem xty_int {T : FieldType} (h : T.toString = "I") : T = .int := by
  cases T with
  | int => rfl
  | object n =>
    exfalso
    have := congrArg String.toList h
    simp [FieldType.toString] at this
  | array t =>
    exfalso
    have := congrArg String.toList h
    simp [FieldType.toString] at this
  | _ => exact absurd h (by decide)
theorem xty_str {T : FieldType} (h : T.toString = "Ljava/lang/String;") : T = .object "java/lang/String" := by
  cases T with
  | object n =>
    have h1 := congrArg String.toList h
    have h2 : 'L' :: (n.toList ++ [';']) = 'L' :: ("java/lang/String".toList ++ [';']) := by
      simpa [FieldType.toString] using h1
    have h3 : n.toList = "java/lang/String".toList := List.append_cancel_right (List.cons.inj h2).2
    rw [String.toList_inj.mp h3]
  | array t =>
    exfalso
    have := congrArg String.toList h
    simp [FieldType.toString] at this
  | _ => exact absurd h (by decide)
theorem xr_field {s : State} {d c : ClassId} {dk k : Class} {i a nt : Nat} {name desc : String} {t : FieldType} {cf fi : Nat} {kf : Class} {f : Field}
    (hd : s.vm.classes[d]? = some dk) (hk : s.vm.classes[c]? = some k) (hres : ∀ (i : Nat) x, (Record.resolvedOf { classPath := fun _ => none } s.vm xrD d c)[i]? = some (some x) → k.resolved[i]? = some (some x)) (hall : ∀ (i a b : Nat), (xrD.constantPool[i]? = some (.fieldref a b) ∨ xrD.constantPool[i]? = some (.methodref a b)) → ∃ x, (Record.resolvedOf { classPath := fun _ => none } s.vm xrD d c)[i]? = some (some x))
    (hi : xrD.constantPool[i]? = some (.fieldref a nt)) (hnt : xrD.constantPool.nameAndType? nt = some (name, desc)) (hp : parseFieldDescriptor desc = some t) (hT : ∀ T : FieldType, T.toString = desc → T = t) (htt : (t == t) = true) (hts : t.toString = desc)
    (hc : s.vm.findClass "PetitionDesk$Voter" = some d) (hf : s.fieldFound? "PetitionDesk$Voter" name desc = some (cf, kf, fi, f)) (hst : f.isStatic = false) : ∀ vm' : Vm, s.WarmedH vm' → vm'.fieldReady c i d f := by
  obtain ⟨x, hx⟩ := hall i a nt (Or.inl hi)
  have hx2 := hres i x hx
  have hx3 : ∃ j, dk.fields.findIdx? (fun f => f.name == name && f.type.toString == desc && !f.isStatic) = some j ∧ x = .field d j := by
    simp [Record.resolvedOf, Array.getElem?_mapIdx, hi, hnt, hd] at hx
    obtain ⟨j, h1, h2⟩ := hx
    exact ⟨j, h1, h2.symm⟩
  obtain ⟨j, hj, rfl⟩ := hx3
  obtain ⟨hlt, hpj, hmin⟩ := Array.findIdx?_eq_some_iff_getElem.mp hj
  simp only [Bool.and_eq_true, Bool.not_eq_true', beq_iff_eq] at hpj
  have hpj2 : (dk.fields[j].name == name && dk.fields[j].type == t) = true := by
    rw [hT _ hpj.1.2, hpj.1.1]
    simp [htt]
  cases hff : dk.findField name t with
  | none =>
    exfalso
    unfold Class.findField at hff
    rw [Array.findIdx?_eq_none_iff] at hff
    have := hff dk.fields[j] (Array.getElem_mem hlt)
    rw [hpj2] at this
    cases this
  | some i0 =>
    have hff2 := hff
    unfold Class.findField at hff2
    obtain ⟨hlt0, hp0, hmin0⟩ := Array.findIdx?_eq_some_iff_getElem.mp hff2
    have hlook : lookupField s.vm name t (s.vm.classes.size + 1) d = some (d, i0) := by
      simp [lookupField, lookupFieldAux, hd, hff]
    have hfe : dk.fields[i0] = f := by
      simp only [State.fieldFound?, hp, hc, hlook, hd, Option.bind_eq_bind, Option.bind_some, Option.pure_def, Array.getElem?_eq_getElem hlt0, Option.some.injEq, Prod.mk.injEq] at hf
      exact hf.2.2.2
    simp only [Bool.and_eq_true, beq_iff_eq] at hp0
    have hji : j = i0 := by
      rcases Nat.lt_trichotomy j i0 with hji | hji | hji
      · exact absurd hpj2 (hmin0 j hji)
      · exact hji
      · exfalso
        refine hmin i0 hji ?_
        rw [hp0.2, hp0.1, hts, hfe, hst]
        simp
    subst hji
    intro vm' hW
    obtain ⟨dk', hdk', he⟩ := hW.alike.2.2 _ _ hd
    obtain ⟨k', hk', e3, -, hres9, -⟩ := hW.2.2 _ _ hk
    have hr9 : k'.resolved[i]? = some (some (.field d j)) := by
      rcases hres9 i with h1 | ⟨h1, -⟩
      · rw [h1]; exact hx2
      · rw [h1] at hx2; cases hx2
    have hfields : dk'.fields = dk.fields := by rw [he]
    exact ⟨k', j, dk', hk', hr9, hdk', by rw [hfields, Array.getElem?_eq_getElem hlt, hfe]⟩
/-- what the made class has resolved stays -/
theorem xr_stays {s : State} {c i : Nat} {k : Class} {x : Resolved} (hk : s.vm.classes[c]? = some k) (hx : k.resolved[i]? = some (some x)) {vm' : Vm} (hW : s.WarmedH vm') : ∃ k', vm'.classes[c]? = some k' ∧ k'.resolved[i]? = some (some x) ∧ k'.cf = k.cf := by
  obtain ⟨k', hk', e3, -, hres9, -⟩ := hW.2.2 _ _ hk
  refine ⟨k', hk', ?_, by rw [e3]⟩
  rcases hres9 i with h1 | ⟨h1, -⟩
  · rw [h1]; exact hx
  · rw [h1] at hx; cases hx
theorem xr_class {s : State} {d c : ClassId} {k : Class} {i n : Nat} {name : String} {cV : ClassId} (hk : s.vm.classes[c]? = some k) (hres : ∀ (i : Nat) x, (Record.resolvedOf { classPath := fun _ => none } s.vm xrD d c)[i]? = some (some x) → k.resolved[i]? = some (some x))
    (hi : xrD.constantPool[i]? = some (.class_ n)) (hne : i ≠ xrD.thisClass) (hs : xrD.constantPool.string? n = some name) (hf : s.vm.findClass name = some cV) : ∀ vm' : Vm, s.WarmedH vm' → vm'.classReady c i cV := by
  intro vm' hW
  have hx := hres i (.cls cV) (by simp [Record.resolvedOf, Array.getElem?_mapIdx, hi, hne, hs, hf])
  obtain ⟨k', hk', hr, -⟩ := xr_stays hk hx hW
  exact ⟨k', hk', hr⟩
theorem xr_noface {s : State} {cJ : ClassId} {kJ : Class} {name desc : String} {t : MethodId} (hk : s.vm.classes[cJ]? = some kJ) (h : ((methodIn cJ name desc false none).ask { classPath := fun _ => none } s.vm).1 = .ok t) : kJ.isInterface = false := by
  cases hi : kJ.isInterface with
  | false => rfl
  | true =>
    exfalso
    revert h
    simp [methodIn, VmM.ask, VmM.bind_run, getClass, VmM.getVm, hk, VmM.pure_run, hi, VmM.failAs]
theorem xr_methJ {s : State} {d c : ClassId} {k : Class} {i a nt : Nat} {cn name desc : String} {cJ : ClassId} {kJ : Class} {mJ : MethodId} (hk : s.vm.classes[c]? = some k) (hres : ∀ (i : Nat) x, (Record.resolvedOf { classPath := fun _ => none } s.vm xrD d c)[i]? = some (some x) → k.resolved[i]? = some (some x)) (hall : ∀ (i a b : Nat), (xrD.constantPool[i]? = some (.fieldref a b) ∨ xrD.constantPool[i]? = some (.methodref a b)) → ∃ x, (Record.resolvedOf { classPath := fun _ => none } s.vm xrD d c)[i]? = some (some x))
    (hi : xrD.constantPool[i]? = some (.methodref a nt)) (hcn : xrD.constantPool.className? a = some cn) (hnt : xrD.constantPool.nameAndType? nt = some (name, desc)) (hf : s.vm.findClass cn = some cJ) (hkJ : s.vm.classes[cJ]? = some kJ) (hm : s.methodFound? cn name desc = some mJ) : ∀ vm' : Vm, s.WarmedH vm' → vm'.methodReady c i mJ := by
  obtain ⟨x, hx⟩ := hall i a nt (Or.inr hi)
  have hx2 := hres i x hx
  have hx3 : x = .method mJ := by
    simp [Record.resolvedOf, Array.getElem?_mapIdx, hi, hcn, hf, hnt] at hx
    cases hq : ((methodIn cJ name desc false none).ask { classPath := fun _ => none } s.vm).1 with
    | error z => rw [hq] at hx; cases hx
    | ok t =>
      rw [hq] at hx
      have hni := xr_noface hkJ hq
      simp only [State.methodFound?, hf, hkJ, hni, Option.bind_eq_bind, Option.bind_some] at hm
      rw [hq] at hm
      have ht : t = mJ := Option.some.inj hm
      rw [ht] at hx
      exact (Option.some.inj hx).symm
  subst hx3
  intro vm' hW
  obtain ⟨k', hk', hr, -⟩ := xr_stays hk hx2 hW
  exact ⟨k', hk', hr⟩
