/-! the record's equals: what the site's word says -/
def xrsh : Record.Shape := { which := Jvm.Record.Which.equals, cls := "PetitionDesk$Voter", comps := [("name", (Jvm.ClassFile.FieldType.object "java/lang/String")), ("street", Jvm.ClassFile.FieldType.int), ("since", Jvm.ClassFile.FieldType.int)] }
theorem xrec_word : Cond.recordSite ⟨"PetitionDesk$Voter", "equals", "(Ljava/lang/Object;)Z"⟩ 2 34 xrsh ∈ flatC (Jvm.Cond.and given_1 narrow_1) := by decide +kernel
theorem xrec_cs {cf : ClassFile} {index : Nat} {sh : Concat.Shape} (h : Concat.shapeOf? cf index = some sh) : ∃ b nt desc, cf.constantPool[index]? = some (.invokeDynamic b nt) ∧ cf.constantPool.nameAndType? nt = some ("makeConcatWithConstants", desc) := by
  unfold Concat.shapeOf? at h
  simp only [Option.bind_eq_bind, Option.pure_def, guard] at h
  split at h
  case h_2 => cases h
  rename_i b nt hidx
  simp only [Option.bind_eq_some_iff] at h
  obtain ⟨w1, -, w2, -, h⟩ := h
  split at h
  case h_2 => cases h
  simp only [Option.bind_eq_some_iff] at h
  obtain ⟨w3, -, h⟩ := h
  split at h
  case h_2 => cases h
  split at h
  case h_2 => cases h
  simp only [Option.bind_eq_some_iff] at h
  obtain ⟨w4, -, w5, -, nd, hnd, u3, hu3, -⟩ := h
  obtain ⟨n, d⟩ := nd
  refine ⟨b, nt, d, hidx, ?_⟩
  by_cases hn : n = "makeConcatWithConstants"
  · rw [← hn]
    exact hnd
  · simp [hn, failure] at hu3
theorem xlist_beq_len {α : Type} [BEq α] : ∀ (l k : List α), (l == k) = true → l.length = k.length
  | [], [], _ => rfl
  | a :: l, b :: k, h => by
    have h : (a == b && l == k) = true := h
    simp only [Bool.and_eq_true] at h
    rw [List.length_cons, List.length_cons, xlist_beq_len l k h.2]
  | [], _ :: _, h => by cases h
  | _ :: _, [], h => by cases h
theorem xrec_rs {cf : ClassFile} {index : Nat} (h : Record.shapeOf? cf index = some xrsh) : ∃ b nt name desc, cf.constantPool[index]? = some (.invokeDynamic b nt) ∧ cf.constantPool.nameAndType? nt = some (name, desc) ∧ (∃ sig, parseMethodDescriptor desc = some sig ∧ sig.parameters.length = 2) ∧ (name = "toString" ∨ name = "hashCode" ∨ name = "equals") := by
  unfold Record.shapeOf? at h
  simp only [Option.bind_eq_bind, Option.pure_def, guard] at h
  split at h
  case h_2 => cases h
  rename_i b nt hidx
  simp only [Option.bind_eq_some_iff] at h
  obtain ⟨w1, -, w2, -, h⟩ := h
  split at h
  case h_2 => cases h
  simp only [Option.bind_eq_some_iff] at h
  obtain ⟨w3, -, h⟩ := h
  split at h
  case h_2 => cases h
  simp only [Option.bind_eq_some_iff] at h
  obtain ⟨cls, -, h⟩ := h
  split at h
  case h_2 => cases h
  simp only [Option.bind_eq_some_iff] at h
  obtain ⟨w4, -, comps, -, w5, -, w6, -, nd, hnd, h⟩ := h
  obtain ⟨n, d⟩ := nd
  have key : ∀ which : Record.Which, ((if (parseMethodDescriptor d == some ({ which := which, cls := cls, comps := comps } : Record.Shape).desc) = true then some () else failure).bind fun _ => some ({ which := which, cls := cls, comps := comps } : Record.Shape)) = some xrsh → ∃ sig, parseMethodDescriptor d = some sig ∧ sig.parameters.length = 2 := by
    intro which hk
    by_cases hd : (parseMethodDescriptor d == some ({ which := which, cls := cls, comps := comps } : Record.Shape).desc) = true
    · rw [if_pos hd] at hk
      simp only [Option.bind_some, Option.some.injEq] at hk
      rw [hk] at hd
      cases hp : parseMethodDescriptor d with
      | none => rw [hp] at hd; exact absurd hd (by simp)
      | some sg =>
        rw [hp] at hd
        refine ⟨sg, rfl, ?_⟩
        obtain ⟨ps, rt⟩ := sg
        have hd : ((⟨ps, rt⟩ : MethodDescriptor) == xrsh.desc) = true := hd
        have h2 : (ps == xrsh.desc.parameters) = true := by
          have h3 : (ps == xrsh.desc.parameters && rt == xrsh.desc.returnType) = true := hd
          simp only [Bool.and_eq_true] at h3
          exact h3.1
        have h4 := xlist_beq_len _ _ h2
        rw [h4]
        decide
    · rw [if_neg hd] at hk
      simp [failure] at hk
  refine ⟨b, nt, n, d, hidx, hnd, ?_⟩
  dsimp only at h
  split at h
  · exact ⟨key _ h, Or.inl rfl⟩
  · exact ⟨key _ h, Or.inr (Or.inl rfl)⟩
  · exact ⟨key _ h, Or.inr (Or.inr rfl)⟩
  · cases h
theorem xrec_no {cf : ClassFile} {index : Nat} (h : Record.shapeOf? cf index = some xrsh) (sh : Concat.Shape) : ¬ Concat.shapeOf? cf index = some sh := by
  intro hc
  obtain ⟨b, nt, desc, h1, h2⟩ := xrec_cs hc
  obtain ⟨b', nt', name, desc', g1, g2, -, g3⟩ := xrec_rs h
  cases h1.symm.trans g1
  cases h2.symm.trans g2
  rcases g3 with g3 | g3 | g3 <;> exact absurd g3 (by decide)
theorem xrec_at {s : State} {x : MethodName} {pc index : Nat} {c : ClassId} {ap : Value} (h : s.recordAt? x pc index xrsh = some (c, ap)) :
    ∃ (m : MethodId) (k : Class) (cf : ClassFile) (i0 p0 : Nat), s.methodNamed? x = some m ∧ s.vm.classes[m.cls]? = some k ∧ k.cf = some cf ∧ Record.shapeOf? cf index = some xrsh ∧
      (k.callSites.find? fun y => y.1 == m.idx && y.2.1 == pc) = some (i0, p0, .calls ⟨c, 0⟩ .null) ∧ Record.isMade { classPath := fun _ => none } s.vm m.cls xrsh c = true := by
  simp only [State.recordAt?, Option.bind_eq_bind, Option.bind_eq_some_iff, Option.pure_def, guard] at h
  obtain ⟨m, hm, k, hk, cf, hcf, u1, hu1, u2, hu2, h⟩ := h
  by_cases hc1 : (decide (Record.shapeOf? cf index = some xrsh) && !jdkName k.name) = true
  case neg => rw [if_neg hc1] at hu1; simp [failure] at hu1
  simp only [Bool.and_eq_true, decide_eq_true_eq] at hc1
  cases hfind : k.callSites.find? (fun y => y.1 == m.idx && y.2.1 == pc) with
  | none => simp [hfind] at h
  | some w =>
    obtain ⟨i0, p0, l⟩ := w
    simp only [hfind, Option.map_some] at h
    split at h
    · rename_i c' appendix' hl
      simp only [Option.some.injEq] at hl
      subst hl
      simp only [Option.bind_eq_some_iff] at h
      obtain ⟨u3, hu3, h⟩ := h
      by_cases hmade : Record.isMade { classPath := fun _ => none } s.vm m.cls xrsh c' = true
      case neg => rw [if_neg hmade] at hu3; simp [failure] at hu3
      cases appendix' with
      | null =>
        simp only [xrsh, Option.some.injEq, Prod.mk.injEq] at h
        obtain ⟨rfl, rfl⟩ := h
        exact ⟨m, k, cf, i0, p0, hm, hk, hcf, hc1.1, hfind, hmade⟩
      | _ => simp [xrsh] at h
    · cases h
/-! the made method -/
def xrD : ClassFile := (xrsh.file).getD { minorVersion := 0, majorVersion := 0, constantPool := #[], accessFlags := 0, thisClass := 0, superClass := 0, interfaces := #[], fields := #[], methods := #[], attributes := #[] }
def xrM : Method := ((layoutMethods xrD).bind (·[0]?)).getD default
theorem xr_file0 : (xrsh.file).isSome = true := by decide +kernel
theorem xr_meth0 : ((layoutMethods xrD).bind (·[0]?)).isSome = true := by decide +kernel
def xrB : ByteArray := ⟨#[0x2a, 0x2b, 0xa6, 0, 5, 4, 0xac, 0x2b, 0xc1, 0, 8, 0x9a, 0, 5, 3, 0xac, 0x2b, 0xc0, 0, 8, 0x4d, 0x2a, 0xb4, 0, 12, 0x2c, 0xb4, 0, 12, 0x9f, 0, 5, 3, 0xac, 0x2a, 0xb4, 0, 15, 0x2c, 0xb4, 0, 15, 0x9f, 0, 5, 3, 0xac, 0x2a, 0xb4, 0, 19, 0x2c, 0xb4, 0, 19, 0xb8, 0, 24, 0x9a, 0, 5, 3, 0xac, 4, 0xac]⟩
theorem xr_f1 : (xrM.code.map fun c => c.maxLocals) = some 203 := by decide +kernel
theorem xr_f2 : (xrM.code.map fun c => c.code.data.size) = some 65 := by decide +kernel
theorem xr_f3 : (xrM.code.map fun c => c.code.data) = some xrB.data := by decide +kernel
theorem xr_f4 : xrD.constantPool[8]? = some (.class_ 7) ∧ xrD.constantPool.string? 7 = some "PetitionDesk$Voter" ∧ 8 ≠ xrD.thisClass := by decide +kernel
theorem xr_f5 : xrD.constantPool[12]? = some (.fieldref 8 11) ∧ xrD.constantPool.nameAndType? 11 = some ("since", "I") := by decide +kernel
theorem xr_f6 : xrD.constantPool[15]? = some (.fieldref 8 14) ∧ xrD.constantPool.nameAndType? 14 = some ("street", "I") := by decide +kernel
theorem xr_f7 : xrD.constantPool[19]? = some (.fieldref 8 18) ∧ xrD.constantPool.nameAndType? 18 = some ("name", "Ljava/lang/String;") := by decide +kernel
theorem xr_f8 : xrD.constantPool[24]? = some (.methodref 21 23) ∧ xrD.constantPool.className? 21 = some "java/util/Objects" ∧ xrD.constantPool.nameAndType? 23 = some ("equals", "(Ljava/lang/Object;Ljava/lang/Object;)Z") := by decide +kernel
theorem xr_f9 : xrD.constantPool[21]? = some (.class_ 20) ∧ xrD.constantPool.string? 20 = some "java/util/Objects" ∧ 21 ≠ xrD.thisClass := by decide +kernel
theorem xr_f10 : xrM.accessFlags = 0x0008 ∧ xrM.sig.returnType = some .boolean ∧ plainName (Record.selfName "PetitionDesk$Voter") = true := by decide +kernel
