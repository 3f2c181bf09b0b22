/-! the row of the record's equals -/
section XRR
variable {Z : XZ} {κ : XK} {μ : XU} {δ : XT} {ls : Array Slot} {frJ loJ fr0 lo0 : Nat} {r x : Option Nat} {pe : Option Nat → Option Nat → XM}
theorem xrec_mono (hM : ∀ a b : Option Nat, xMet Z yJ3_equals cJ3_equals 2 (some .boolean) frJ loJ [va_rf a, va_rf b] (pe a b)) {h h1 : XH} {o : XO} (e : xrecV pe r x h = some (o, h1)) : xMono h h1 ∧ ∃ z : Int32, o = .ok (some (.int z)) := by
  rcases xrecV_some e with ⟨-, rfl, rfl⟩ | ⟨a, q, -, -, hx⟩
  · exact ⟨xMono.rf _, _, rfl⟩
  · rcases hx with ⟨-, rfl, rfl⟩ | ⟨b, w, -, -, -, hx⟩
    · exact ⟨xMono.rf _, _, rfl⟩
    · rcases hx with ⟨-, rfl, rfl⟩ | ⟨-, -, rfl, rfl⟩ | ⟨-, -, hx⟩
      · exact ⟨xMono.rf _, _, rfl⟩
      · exact ⟨xMono.rf _, _, rfl⟩
      · obtain ⟨z, rfl, hp, -⟩ := xok_some hx
        exact ⟨(hM _ _ h _ h1 hp).1, z, rfl⟩
theorem xs_rec (hM : ∀ a b : Option Nat, xMet Z yJ3_equals cJ3_equals 2 (some .boolean) frJ loJ [va_rf a, va_rf b] (pe a b)) (hδ : (⟨δ.2.2.1, δ.2.2.2.1.1, δ.2.2.2.1.2⟩ : MethodName) = ⟨"PetitionDesk$Voter", "equals", "(Ljava/lang/Object;)Z"⟩) (d : decode δ.1 2 = .ok (.invokedynamic 34, 5)) (hμ : μ.2.2 = (fr0, lo0)) (hF : frJ + 2 ≤ fr0) (hL : 4100 ≤ lo0) (hL2 : 222 + (8 + (2 + 11) + loJ) ≤ lo0) (hls : ls.size = δ.2.1) :
    xRun5 Z κ μ δ 2 ls [va_rf x, va_rf r] [] (xrecV pe r x) := by
  intro h o h1 e
  obtain ⟨mono, z, ho⟩ := xrec_mono hM e
  refine ⟨mono, fun H locs cells slots R C q2 q6 q7 q8 q9 => ⟨#[], ?_⟩⟩
  subst ho
  intro T hT X
  -- the start's facts
  have hrw := xpre xrec_word C.G
  obtain ⟨c, ap, hat⟩ : ∃ c ap, Z.2.1.recordAt? ⟨"PetitionDesk$Voter", "equals", "(Ljava/lang/Object;)Z"⟩ 2 34 xrsh = some (c, ap) := by
    simp only [Cond.before, Cond.holds, Cond.value] at hrw
    cases hx : Z.2.1.recordAt? ⟨"PetitionDesk$Voter", "equals", "(Ljava/lang/Object;)Z"⟩ 2 34 xrsh with
    | none => simp [hx] at hrw
    | some w => exact ⟨w.1, w.2, rfl⟩
  obtain ⟨m', kS, cfS, i0, p0, hm', hkS, hcfS, hshape, hfind, hmade⟩ := xrec_at hat
  have hA := C.W.alike
  have hm2 : κ.2.2.2.1.methodNamed? ⟨"PetitionDesk$Voter", "equals", "(Ljava/lang/Object;)Z"⟩ = some m' := by
    have := State.methodNamed?_setVm (s := Z.2.1) hA ⟨"PetitionDesk$Voter", "equals", "(Ljava/lang/Object;)Z"⟩
    rw [hm'] at this
    exact this
  have hnm := C.2.2.2.2.2.2.2.2.1.2
  rw [hδ, hm2] at hnm
  cases hnm
  obtain ⟨k', hk', he⟩ := hA.2.2 _ _ hkS
  obtain ⟨bsm, nt, name, desc, hc0, hnt, ⟨sig, hsig, hsl⟩, -⟩ := xrec_rs hshape
  have hold : Concat.shapeOf? cfS 34 = none := by
    cases hc : Concat.shapeOf? cfS 34 with
    | none => rfl
    | some sc => exact absurd hc (xrec_no hshape sc)
  obtain ⟨dk, k, file, methk, ck, hd, hdn, hk, hkn, hfile, hpool, hmk, hck, hbytes, hml, hlk, hret, hres, hall⟩ := xr_made hmade
  have tw : ∀ w ∈ lw_all, w.before Z.2.2.2.1 Z.2.1 = true := fun w hw => C.G.2.1 _ (lw_all_tbl hw)
  obtain ⟨hS, hfc, kV, hkV, hkind⟩ := C.G.1.1 6 _ (rfl : xcl[6]? = some (RX7, TX7, 3))
  have hcV : Z.2.1.vm.findClass "PetitionDesk$Voter" = some κ.2.2.2.2.1.cls := findClass_of_methodNamed hm'
  have hcls : Z.1.1.1 6 = κ.2.2.2.2.1.cls := Option.some.inj (hfc.symm.trans hcV)
  sorry
end XRR
