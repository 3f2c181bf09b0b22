/-! the row of the record's equals -/
section XRR
variable {Z : XZ} {κ : XK} {μ : XU} {δ : XT} {ls : Array Slot} {frJ loJ fr0 lo0 : Nat} {r x : Option Nat} {pe : Option Nat → Option Nat → XM}
theorem xrec_mono (hM : ∀ a b : Option Nat, xMet Z yJ3_equals cJ3_equals 2 (some .boolean) frJ loJ [va_rf a, va_rf b] (pe a b)) {h h1 : XH} {o : XO} (e : xrecV pe r x h = some (o, h1)) : xMono h h1 ∧ ∃ z : Int32, o = .ok (some (.int z)) := by
  rcases xrecV_some e with ⟨-, rfl, rfl⟩ | ⟨a, q, -, -, hx⟩
  · exact ⟨xMono.rf _, _, rfl⟩
  · rcases hx with ⟨-, rfl, rfl⟩ | ⟨b, w, -, -, -, hx⟩
    · exact ⟨xMono.rf _, _, rfl⟩
    · rcases hx with ⟨-, rfl, rfl⟩ | ⟨-, -, rfl, rfl⟩ | ⟨-, -, hx⟩
      · exact ⟨xMono.rf _, _, rfl⟩
      · exact ⟨xMono.rf _, _, rfl⟩
      · obtain ⟨z, rfl, hp, -⟩ := xok_some hx
        exact ⟨(hM _ _ h _ h1 hp).1, z, rfl⟩
theorem xs_rec (hM : ∀ a b : Option Nat, xMet Z yJ3_equals cJ3_equals 2 (some .boolean) frJ loJ [va_rf a, va_rf b] (pe a b)) (hδ : (⟨δ.2.2.1, δ.2.2.2.1.1, δ.2.2.2.1.2⟩ : MethodName) = ⟨"PetitionDesk$Voter", "equals", "(Ljava/lang/Object;)Z"⟩) (d : decode δ.1 2 = .ok (.invokedynamic 34, 5)) (hμ : μ.2.2 = (fr0, lo0)) (hF : frJ + 2 ≤ fr0) (hL : 4100 ≤ lo0) (hL2 : 222 + (8 + (2 + 11) + loJ) ≤ lo0) (hls : ls.size = δ.2.1) :
    xRun5 Z κ μ δ 2 ls [va_rf x, va_rf r] [] (xrecV pe r x) := by
  intro h o h1 e
  obtain ⟨mono, z, ho⟩ := xrec_mono hM e
  refine ⟨mono, fun H locs cells slots R C q2 q6 q7 q8 q9 => ⟨#[], ?_⟩⟩
  subst ho
  intro T hT X
  -- the start's facts
  have hrw := xpre xrec_word C.G
  obtain ⟨c, ap, hat⟩ : ∃ c ap, Z.2.1.recordAt? ⟨"PetitionDesk$Voter", "equals", "(Ljava/lang/Object;)Z"⟩ 2 34 xrsh = some (c, ap) := by
    simp only [Cond.before, Cond.holds, Cond.value] at hrw
    cases hx : Z.2.1.recordAt? ⟨"PetitionDesk$Voter", "equals", "(Ljava/lang/Object;)Z"⟩ 2 34 xrsh with
    | none => simp [hx] at hrw
    | some w => exact ⟨w.1, w.2, rfl⟩
  obtain ⟨m', kS, cfS, i0, p0, hm', hkS, hcfS, hshape, hfind, hmade⟩ := xrec_at hat
  have hA := C.W.alike
  have hm2 : κ.2.2.2.1.methodNamed? ⟨"PetitionDesk$Voter", "equals", "(Ljava/lang/Object;)Z"⟩ = some m' := by
    have := State.methodNamed?_setVm (s := Z.2.1) hA ⟨"PetitionDesk$Voter", "equals", "(Ljava/lang/Object;)Z"⟩
    rw [hm'] at this
    exact this
  have hnm := C.2.2.2.2.2.2.2.2.1.2
  rw [hδ, hm2] at hnm
  cases hnm
  obtain ⟨k', hk', he⟩ := hA.2.2 _ _ hkS
  obtain ⟨bsm, nt, name, desc, hc0, hnt, ⟨sig, hsig, hsl⟩, -⟩ := xrec_rs hshape
  have hold : Concat.shapeOf? cfS 34 = none := by
    cases hc : Concat.shapeOf? cfS 34 with
    | none => rfl
    | some sc => exact absurd hc (xrec_no hshape sc)
  obtain ⟨dk, k, file, methk, ck, hd, hdn, hk, hkn, hfile, hpool, hmk, hck, hbytes, hml, hlk, hret, hres, hall⟩ := xr_made hmade
  have tw : ∀ w ∈ lw_all, w.before Z.2.2.2.1 Z.2.1 = true := fun w hw => C.G.2.1 _ (lw_all_tbl hw)
  obtain ⟨hS, hfc, kV, hkV, hkind⟩ := C.G.1.1 6 _ (rfl : xcl[6]? = some (RX7, TX7, 3))
  have hcV : Z.2.1.vm.findClass "PetitionDesk$Voter" = some κ.2.2.2.2.1.cls := findClass_of_methodNamed hm'
  have hcls : Z.1.1.1 6 = κ.2.2.2.2.1.cls := Option.some.inj (hfc.symm.trans hcV)
  obtain ⟨cf0, kf0, fi0, f0, hi0, hs0⟩ := hS 0 (by decide)
  obtain ⟨cf1, kf1, fi1, f1, hi1, hs1⟩ := hS 1 (by decide)
  obtain ⟨cf2, kf2, fi2, f2, hi2, hs2⟩ := hS 2 (by decide)
  have hst0 := (u_facts hfc hkV (u_lays (C := RX7) (T := TX7) (N := 3) tw in_X7 (k := 0) (by decide)) hi0).1
  have hst1 := (u_facts hfc hkV (u_lays (C := RX7) (T := TX7) (N := 3) tw in_X7 (k := 1) (by decide)) hi1).1
  have hst2 := (u_facts hfc hkV (u_lays (C := RX7) (T := TX7) (N := 3) tw in_X7 (k := 2) (by decide)) hi2).1
  have r0 := xr_field hd hk hres hall xr_f7.1 xr_f7.2 (by decide +kernel : parseFieldDescriptor "Ljava/lang/String;" = some (.object "java/lang/String")) (fun T h => xty_str h) (by decide) (by decide) hcV hi0 hst0
  have r1 := xr_field hd hk hres hall xr_f6.1 xr_f6.2 (by decide +kernel : parseFieldDescriptor "I" = some .int) (fun T h => xty_int h) (by decide) (by decide) hcV hi1 hst1
  have r2 := xr_field hd hk hres hall xr_f5.1 xr_f5.2 (by decide +kernel : parseFieldDescriptor "I" = some .int) (fun T h => xty_int h) (by decide) (by decide) hcV hi2 hst2
  have rc := xr_class hk hres xr_f4.1 xr_f4.2.2 xr_f4.2.1 hcV
  -- Objects.equals
  have hcw := tw _ q496
  obtain ⟨mJ, hmJ⟩ := Cond.code_named hcw
  obtain ⟨methJ, cJ, hmethJ, hcJ, -, hlocJ, -, -, -, hsigJ⟩ := Cond.code_spec hmJ hcw
  have hstaticJ : methJ.isStatic = true := Cond.static_spec hmJ hmethJ (tw _ q495)
  obtain ⟨kJ, hkJ, hnameJ⟩ := className_of_methodNamed hmJ
  have hfJ : Z.2.1.vm.findClass "java/util/Objects" = some mJ.cls := findClass_of_methodNamed hmJ
  have hinitJ : kJ.init = .initialized := Cond.initialized_spec hfJ hkJ (tw _ q94)
  have rm := xr_methJ hk hres hall xr_f8.1 xr_f8.2.1 xr_f8.2.2 hfJ hkJ (State.methodFound?_of_named hmJ (by decide))
  have rcJ := xr_class hk hres xr_f9.1 xr_f9.2.2 xr_f9.2.1 hfJ
  have hsz : (F0 κ.2.2.2.2.1 2 ls []).locals.size = κ.2.2.2.2.2.2.2.2.maxLocals := by show ls.size = _; rw [hls, C.2.2.1]
  have hdg : decode κ.2.2.2.2.2.2.2.2.code 2 = .ok (.invokedynamic 34, 5) := by rw [C.2.1]; exact d
  have hstep := xrec_step X C.1 (g := F0 κ.2.2.2.2.1 2 ls [va_rf x, va_rf r]) rfl hsz hk' (by rw [he]; exact hfind) (by rw [he]; exact hcfS) hc0 hnt (parseLong_of_parse hsig) (argsL := [va_rf r, va_rf x]) (rest := []) hold (by rw [hsl]; rfl) rfl hdg (by
    rw [X.admits.platform, q7, hμ]
    show 2 * 0 + (([va_rf x, va_rf r] : List Value).map fun v => v.category).sum + 4096 ≤ lo0
    have : (([va_rf x, va_rf r] : List Value).map fun v => v.category).sum = 2 := by simp [xcat_rf]
    omega)
  have hWT : Z.2.1.WarmedH T.vm := State.WarmedH.trans C.W X.warmed
  sorry
end XRR
