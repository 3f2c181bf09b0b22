/-! the record's site: the instruction calls the made method -/
section XRS
theorem xrec_link {E : CtlPost} {e : Env} {d : Bool} {acts : List Action} {s : State} {Q : Bool → Pre} : wp Seam.Record.linkRoom Q E e d acts s ↔ Q (decide (s.stackHas e.platform e.platform.recordLinkWords)) true acts s := by
  simp [Seam.Record.linkRoom, Jvm.stackFree, Jvm.sync, Jvm.frames, Jvm.ask, Jvm.look, State.stackHas, SyncOp.full, SyncOp.run, SyncOp.acts]
theorem xrec_room {E : CtlPost} {e : Env} {d : Bool} {acts : List Action} {s : State} {Q : Unit → Pre} (h : s.stackHas e.platform e.platform.recordLinkWords) : wp Seam.Record.useRoom Q E e d acts s ↔ Q () true acts s := by
  simp [Seam.Record.useRoom, xrec_link, h]
theorem xrec_atOnce {E : CtlPost} {e : Env} {d : Bool} {acts : List Action} {s : State} {c index : Nat} {k : Class} {cf : ClassFile} {args : List Value} {appendix : Value} {Q : Option Addr → Pre}
    (hk : s.vm.classes[c]? = some k) (hcf : k.cf = some cf) (hold : Concat.shapeOf? cf index = none) : wp (Seam.Concat.atOnce c index args appendix) Q E e d acts s ↔ Q none d acts s := by
  simp [Seam.Concat.atOnce, hk, hcf, hold]
theorem xrec_wp {Q : Unit → Pre} {E : CtlPost} {e : Env} {d : Bool} {acts : List Action} {s : State} {f : JFrame} {index bsm nt i0 p0 : Nat} {k : Class} {cf : ClassFile} {adapter : MethodId} {name desc : String} {sig : MethodDescriptor} {args rest : List Value}
    (hs : s.topJava?.isSome) (hk : s.vm.classes[f.method.cls]? = some k)
    (hsite : (k.callSites.find? fun x => x.1 == f.method.idx && x.2.1 == f.pc) = some (i0, p0, .calls adapter .null))
    (hroom : (s.setTop f).stackHas e.platform e.platform.recordLinkWords)
    (hcf : k.cf = some cf) (hc : cf.constantPool[index]? = some (.invokeDynamic bsm nt)) (hnt : cf.constantPool.nameAndType? nt = some (name, desc)) (hsig : parseLongMethodDescriptor desc = some sig)
    (hlen : args.length = sig.parameters.length) (hstack : f.stack = args.reverse ++ rest) (hold : Concat.shapeOf? cf index = none) :
    wp (Op.invokedynamic.sem index) Q E e d acts (s.setTop f) ↔
      E (.invoke adapter args.toArray) (.tableLock (.callSite f.method.cls f.method.idx f.pc) false :: acts) (s.setTop { f with stack := rest }) := by
  have ht : (VmOp.table (TableKey.callSite f.method.cls f.method.idx f.pc) false).tables e s.vm = s.vm := rfl
  simp [Op.invokedynamic.sem, Jvm.constantAt, Seam.useEntry, xrec_room hroom, Seam.nameAndTypeOf, Seam.parsed, Seam.invokeLinked, Jvm.popArgs, hs, hk, hsite, hcf, hc, hnt, hsig, ← hlen, popN_top hs hstack, ht, VmOp.acts, VmOp.dirties, State.setVm_self, xrec_atOnce (s := s.setTop _) hk hcf hold]
variable {p : Program} {l : Launch} {e : Env} {R : Room} {s : State} {m : MethodId} {args : Array Value} {below : List Frame} {meth : Method} {c : Code} {T : State} {locs : List Loc} {cells slots : Nat}
theorem xrec_step (X : Stand p l e R s m args below meth c T locs cells slots) (hexec : p.tables.exec = Jvm.exec) {index bsm nt i0 p0 : Nat} {adapter : MethodId} {k : Class} {cf : ClassFile} {name desc : String} {sig : MethodDescriptor}
    {g : JFrame} (hg : g.method = m) (hsize : g.locals.size = c.maxLocals) (hk : s.vm.classes[m.cls]? = some k) (hsite : (k.callSites.find? fun x => x.1 == m.idx && x.2.1 == g.pc) = some (i0, p0, .calls adapter .null))
    (hcf : k.cf = some cf) (hc : cf.constantPool[index]? = some (.invokeDynamic bsm nt)) (hnt : cf.constantPool.nameAndType? nt = some (name, desc)) (hsig : parseLongMethodDescriptor desc = some sig) {argsL rest : List Value} (hold : Concat.shapeOf? cf index = none) (hlen : argsL.length = sig.parameters.length) (hstack : g.stack = argsL.reverse ++ rest)
    (hdg : decode c.code g.pc = .ok (.invokedynamic index, 5)) (hwords : 2 * g.monitorRoom + (g.stack.map fun v => v.category).sum + e.platform.recordLinkWords ≤ R.locals) :
    ∀ target, (∀ acts, Steps p.tables e below (doInvoke e (T.setTop { g with stack := rest }) acts adapter argsL.toArray).1 target) → Steps p.tables e below (T.setTop g) target := by
  obtain ⟨k', hk', he⟩ := X.warmed.alike.2.2 _ _ hk
  intro target hrest
  subst hg
  jvm_step X.here [hexec, hdg, xrec_wp (e := e) (s := T) (f := g) X.here.top hk' (by rw [he]; exact hsite) (X.wordsFree hsize hwords) (by rw [he]; exact hcf) hc hnt hsig hlen hstack hold]
  intro acts
  simpa using hrest acts
end XRS
