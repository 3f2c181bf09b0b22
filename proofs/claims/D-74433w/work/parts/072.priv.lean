/-! a private method of a class above, found by the receiver: no word names the selection: it is derived here -/
section XPRV
variable {Z : XZ} {κ : XK} {μ : XU} {δ : XT} {pc : Nat} {ls : Array Slot} {st rest st0 : List Value} {pr : XM}
variable {y : MethodName} {yc : ByteArray} {yn fr lo fr0 lo0 n index : Nat} {yr : Option FieldType} {As : List Value}
theorem xsel_private {C : String} {y x2 z : MethodName} {s : State} {args : Array Value} (hy : y.cls ≠ "java/lang/invoke/MethodHandle" ∧ y.cls ≠ "java/lang/invoke/VarHandle")
    (hsel2 : (Cond.selects C x2 z).before args s = true) (hz : z.cls = y.cls) (hpriv : (Cond.privateMethod y).before args s = true) (hinst : (Cond.instanceMethod y).before args s = true) :
    (Cond.selects C y y).before args s = true := by
  obtain ⟨mk, methM, hnamed, hmethM, -, -⟩ := Cond.instanceMethod_spec hinst
  have hfound : s.methodFound? y.cls y.name y.desc = some mk := State.methodFound?_of_named hnamed hy
  have hcy := findClass_of_methodNamed hnamed
  simp only [Cond.before, Cond.holds, Cond.value] at hsel2
  cases hc : s.vm.findClass C with
  | none => rw [hc] at hsel2; simp at hsel2
  | some c =>
    rw [hc] at hsel2
    cases hf : s.methodFound? x2.cls x2.name x2.desc with
    | none => rw [hf] at hsel2; simp at hsel2
    | some r2 =>
      rw [hf] at hsel2
      cases hn : s.methodNamed? z with
      | none => rw [hn] at hsel2; simp at hsel2
      | some m2 =>
        rw [hn] at hsel2
        have hcz := findClass_of_methodNamed hn
        rw [hz] at hcz
        have hcls : m2.cls = mk.cls := Option.some.inj (hcz.symm.trans hcy)
        have hsel : selectMethod {} s.vm c mk = .method mk := selectMethod_private hmethM (Cond.privateMethod_at hpriv mk methM hnamed hmethM)
        simp only [Cond.before, Cond.holds, Cond.value, hc, hfound, hnamed, hsel]
        cases h9 : selectMethod {} s.vm c r2 with
        | method m9 =>
          simp only [h9] at hsel2
          rw [hcls] at hsel2
          simp at hsel2
          simp [hsel2.2]
        | _ => simp only [h9] at hsel2; simp at hsel2
theorem xr_P {r : Option Nat} {c : Nat} {q : vw_C} {x2 z : MethodName} (hM : xMet Z y yc yn yr fr lo (va_rf r :: As) pr) (hc : xcl[c]? = some q) (hw : GoodIn lw_all (ws_ y yc yn yr)) (w1 : Cond.methodLink δ.2.2.1 index y ∈ lw_all) (w2 : Cond.sameMethod y.cls y.cls y.name y.desc ∈ lw_all) (w3 : Cond.selects q.1 x2 z ∈ lw_all) (hz : z.cls = y.cls) (w4 : Cond.privateMethod y ∈ lw_tbl) (w5 : Cond.instanceMethod y ∈ lw_all) (w6 : Cond.initialized y.cls ∈ lw_all)
    (hd : y.cls ≠ "java/lang/invoke/MethodHandle" ∧ y.cls ≠ "java/lang/invoke/VarHandle" ∧ (parseMethodDescriptor y.desc).map (fun d => d.parameters.length) = some n) (hn : As.length = n) (hst : st0 = As.reverse ++ va_rf r :: rest)
    (d : decode δ.1 pc = .ok (.invokevirtual index, 3)) (hμ : μ.2.2 = (fr0, lo0)) (hF : fr + 1 ≤ fr0) (hL : 8 + (yn + 11) + lo ≤ lo0) (hW : (rest.map fun v => v.category).sum ≤ 8) (hls : ls.size = δ.2.1) : xRun Z κ μ δ pc ls st0 rest (xrv r c pr) := by
  intro h r9 h1 e
  obtain ⟨a, fs, rfl, ha, e⟩ := xrv_some e
  obtain ⟨m, met⟩ := hM h r9 h1 e
  refine ⟨m, fun H locs cells slots R C q2 q6 q7 q8 q9 => ⟨(va_rf (some a) :: As).toArray, ?_⟩⟩
  have met := met C.G
  rw [← C.l] at met
  subst hst
  have hcode : Cond.code y yc yn yr ∈ ws_ y yc yn yr := List.mem_cons_self
  have hp0 : va_Nw (.privateMethod y) Z.2.1 := C.tbl w4 rfl
  have hp1 : va_Nw (.privateMethod y) κ.2.2.2.1 := va_tabs rfl (rfl : (Z.2.1.setVm κ.2.2.2.1.vm).vm = κ.2.2.2.1.vm) (by rw [Cond.privateMethod_setVm C.W.alike]; exact hp0)
  have hp : (Cond.privateMethod y).before κ.2.2.2.2.2.1 κ.2.2.2.1 = true := va_Nw.use rfl hp1
  have hs := xsel_private ⟨hd.1, hd.2.1⟩ (C.ws _ w3) hz hp (C.ws _ w5)
  have cw : va_CU R κ.2.2.2.1 κ.2.2.2.2.2.1 δ.2.2.1 q.1 y.cls index y y yc yn yr (ws_ y yc yn yr) (Room.mk fr (h1.2.1 - h.2.1) (h1.2.2.1 - h.2.2.1) lo) (h1.2.1 - h.2.1) (h1.2.2.1 - h.2.2.1) n :=
    ⟨⟨rfl, rfl, by rw [q6, hμ]; exact hF, by rw [q7, hμ]; exact hL, pay_in C.ws hw, hcode⟩, C.ws _ (hw _ hcode).1, C.ws _ w6, ⟨hd.1, hd.2.1⟩, fun sig h => by
      have h2 := hd.2.2
      rw [h] at h2
      exact (Option.some.inj h2).symm, C.ws _ w1, C.ws _ w2, va_Decl.of (C.ws _ w5) (C.ws _ (hw _ hcode).1), hs, C.ws _ w5⟩
  exact vx_runU (As := As) (b := a) (n := n) (xfix C rfl) met cw ⟨xcall_pre, xrecv C q2 ha hc, xcall_at C q2⟩ rfl hn hls rfl (lv_room hW) d ⟨q8, q9⟩
end XPRV
