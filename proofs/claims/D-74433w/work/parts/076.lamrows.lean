/-! the rows of the lambdas' sites -/
theorem xls_inv19 {α : Type} {x : Option CpInfo} {f : Nat → Nat → Option α} {r : α} (h : Lambda.shapeOf?.match_19 (fun _ => Option α) x f (fun _ => none) = some r) : ∃ b nt, x = some (.invokeDynamic b nt) ∧ f b nt = some r := by
  split at h
  · exact ⟨_, _, rfl, h⟩
  · cases h
theorem xls_inv17 {α : Type} {x : Option CpInfo} {f : Nat → Option α} {r : α} (h : Lambda.shapeOf?.match_17 (fun _ => Option α) x f (fun _ => none) = some r) : ∃ y, f y = some r := by
  split at h
  · exact ⟨_, h⟩
  · cases h
theorem xls_inv15 {α : Type} {x : Array Nat} {f : Nat → Nat → Nat → Option α} {r : α} (h : Lambda.shapeOf?.match_15 (fun _ => Option α) x f (fun _ => none) = some r) : ∃ a0 a1 a2, f a0 a1 a2 = some r := by
  rcases x with ⟨L⟩
  match L, h with
  | [], h => cases h
  | [_], h => cases h
  | [_, _], h => cases h
  | [a, b, c], h => exact ⟨a, b, c, h⟩
  | _ :: _ :: _ :: _ :: _, h => cases h
theorem xls_inv9 {α : Type} {x : Option CpInfo} {f : Nat → Option α} {r : α} (h : Lambda.shapeOf?.match_9 (fun _ => Option α) x f (fun _ => none) = some r) : ∃ y, f y = some r := by
  split at h
  · exact ⟨_, h⟩
  · cases h
theorem xls_inv12 {α : Type} {x : Option CpInfo} {f : Nat → Nat → Option α} {r : α} (h : Lambda.shapeOf?.match_12 (fun _ => Option α) x f (fun _ => none) = some r) : ∃ y z, f y z = some r := by
  split at h
  · exact ⟨_, _, h⟩
  · cases h
theorem xls_inv6 {α : Type} {x : Option FieldType} {f : String → Option α} {r : α} (h : Lambda.shapeOf?.match_6 (fun _ => Option α) x f (fun _ => none) = some r) : ∃ y, f y = some r := by
  split at h
  · exact ⟨_, h⟩
  · cases h
theorem xls_site {cf : ClassFile} {index : Nat} {σ : Lambda.Shape} (h : Lambda.shapeOf? cf index = some σ) :
    ∃ (b nt : Nat) (desc : String) (site : MethodDescriptor), cf.constantPool[index]? = some (.invokeDynamic b nt) ∧ cf.constantPool.nameAndType? nt = some (σ.name, desc) ∧ parseMethodDescriptor desc = some site ∧ site.parameters = σ.captured := by
  unfold Lambda.shapeOf? at h
  obtain ⟨b, nt, hc, h⟩ := xls_inv19 h
  obtain ⟨entries, -, h⟩ := Option.bind_eq_some_iff.mp h
  obtain ⟨bm, -, h⟩ := Option.bind_eq_some_iff.mp h
  obtain ⟨r, h⟩ := xls_inv17 h
  obtain ⟨_, -, h⟩ := Option.bind_eq_some_iff.mp h
  obtain ⟨a0, a1, a2, h⟩ := xls_inv15 h
  obtain ⟨d0, h⟩ := xls_inv9 h
  obtain ⟨kind, r1, h⟩ := xls_inv12 h
  obtain ⟨d2, h⟩ := xls_inv9 h
  obtain ⟨⟨name, desc⟩, hnt, h⟩ := Option.bind_eq_some_iff.mp h
  obtain ⟨site, hsite, h⟩ := Option.bind_eq_some_iff.mp h
  obtain ⟨iface, h⟩ := xls_inv6 h
  obtain ⟨⟨implClass, implName, implDesc, implItf⟩, -, h⟩ := Option.bind_eq_some_iff.mp h
  obtain ⟨x1, -, h⟩ := Option.bind_eq_some_iff.mp h
  obtain ⟨x2, -, h⟩ := Option.bind_eq_some_iff.mp h
  obtain ⟨x3, -, h⟩ := Option.bind_eq_some_iff.mp h
  obtain ⟨x4, -, h⟩ := Option.bind_eq_some_iff.mp h
  obtain ⟨x5, -, h⟩ := Option.bind_eq_some_iff.mp h
  cases h
  exact ⟨b, nt, desc, site, hc, hnt, hsite, rfl⟩
theorem xls_types {s : State} {args : Array Value} {d c : ClassId} {σ : Lambda.Shape} {dk : Class} {T : Array FieldType} (h : Lambda.isMade { classPath := fun _ => none } s.vm d σ c = true) (hd : s.vm.classes[d]? = some dk)
    (hO : (Cond.instantiable "java/lang/Object" 0).before args s = true) (hlay : ((σ.file dk.name).bind (layoutFields · 0)).map (·.2.1) = some T) :
    ∃ k, s.vm.classes[c]? = some k ∧ k.instanceTypes = T ∧ k.kind = .ordinary ∧ k.hidden.isSome = true := by
  obtain ⟨dk', k, ok, tk, file, cf, object, iface, t, lay, methods, target, found, h1, h2, h3, h4, h5, h6, h7, h8, h9, h10, h11, h12, h13, ⟨-, hkind, -⟩, -, hhid, -, -, -, -, -, ⟨hty, -⟩, -⟩ := Lambda.isMade_spec h
  cases hd.symm.trans h1
  obtain ⟨cO, kO, hfO, hkO, -, -, -, hsz⟩ := Cond.instantiable_spec hO
  cases hfO.symm.trans h5
  cases hkO.symm.trans h7
  have hemp : ok.instanceTypes = #[] := Array.eq_empty_of_size_eq_zero hsz
  rw [hsz] at h8
  rw [h4] at hlay
  simp only [Option.bind_some, h8, Option.map_some, Option.some.injEq] at hlay
  exact ⟨k, h2, by rw [hty, hemp, hlay]; simp, hkind, hhid⟩
theorem xlo_nil {v : Int} : ∀ p ∈ ([] : List (Int × Int)), ¬ v = p.1 := fun p h => nomatch h
theorem xlo_cons {v a b : Int} {ps : List (Int × Int)} (h : ¬ v = a) (k : ∀ p ∈ ps, ¬ v = p.1) : ∀ p ∈ (a, b) :: ps, ¬ v = p.1 := by
  intro p hp
  rcases List.mem_cons.mp hp with rfl | hp
  · exact h
  · exact k p hp
theorem xlook_out {ps : List (Int × Int)} {v df : Int} (h : ∀ p ∈ ps, ¬ v = p.1) : Op.lookupswitch.offset ps df v = df := by
  have h2 : ps.find? (fun p => p.1 == v) = none := by
    rw [List.find?_eq_none]
    intro p hp e
    exact h p hp (by simpa using (beq_iff_eq.mp e).symm)
  exact Op.lookupswitch.offset_none h2
/-- the sites' words are among the start's -/
theorem xls_0 : Cond.lambdaSite (xlam 0).1 (xlam 0).2.1 (xlam 0).2.2.1 (xlam 0).2.2.2 ∈ flatC (Jvm.Cond.and given_1 narrow_1) := by decide +kernel
theorem xls_1 : Cond.lambdaSite (xlam 1).1 (xlam 1).2.1 (xlam 1).2.2.1 (xlam 1).2.2.2 ∈ flatC (Jvm.Cond.and given_1 narrow_1) := by decide +kernel
theorem xls_2 : Cond.lambdaSite (xlam 2).1 (xlam 2).2.1 (xlam 2).2.2.1 (xlam 2).2.2.2 ∈ flatC (Jvm.Cond.and given_1 narrow_1) := by decide +kernel
theorem xls_3 : Cond.lambdaSite (xlam 3).1 (xlam 3).2.1 (xlam 3).2.2.1 (xlam 3).2.2.2 ∈ flatC (Jvm.Cond.and given_1 narrow_1) := by decide +kernel
theorem xls_4 : Cond.lambdaSite (xlam 4).1 (xlam 4).2.1 (xlam 4).2.2.1 (xlam 4).2.2.2 ∈ flatC (Jvm.Cond.and given_1 narrow_1) := by decide +kernel
theorem xls_5 : Cond.lambdaSite (xlam 5).1 (xlam 5).2.1 (xlam 5).2.2.1 (xlam 5).2.2.2 ∈ flatC (Jvm.Cond.and given_1 narrow_1) := by decide +kernel
theorem xls_6 : Cond.lambdaSite (xlam 6).1 (xlam 6).2.1 (xlam 6).2.2.1 (xlam 6).2.2.2 ∈ flatC (Jvm.Cond.and given_1 narrow_1) := by decide +kernel
theorem xls_7 : Cond.lambdaSite (xlam 7).1 (xlam 7).2.1 (xlam 7).2.2.1 (xlam 7).2.2.2 ∈ flatC (Jvm.Cond.and given_1 narrow_1) := by decide +kernel
theorem xls_8 : Cond.lambdaSite (xlam 8).1 (xlam 8).2.1 (xlam 8).2.2.1 (xlam 8).2.2.2 ∈ flatC (Jvm.Cond.and given_1 narrow_1) := by decide +kernel
theorem xls_9 : Cond.lambdaSite (xlam 9).1 (xlam 9).2.1 (xlam 9).2.2.1 (xlam 9).2.2.2 ∈ flatC (Jvm.Cond.and given_1 narrow_1) := by decide +kernel
theorem xls_10 : Cond.lambdaSite (xlam 10).1 (xlam 10).2.1 (xlam 10).2.2.1 (xlam 10).2.2.2 ∈ flatC (Jvm.Cond.and given_1 narrow_1) := by decide +kernel
theorem xls_11 : Cond.lambdaSite (xlam 11).1 (xlam 11).2.1 (xlam 11).2.2.1 (xlam 11).2.2.2 ∈ flatC (Jvm.Cond.and given_1 narrow_1) := by decide +kernel
theorem xls_12 : Cond.lambdaSite (xlam 12).1 (xlam 12).2.1 (xlam 12).2.2.1 (xlam 12).2.2.2 ∈ flatC (Jvm.Cond.and given_1 narrow_1) := by decide +kernel
theorem xls_all (i : Nat) (hi : i < 13) : Cond.lambdaSite (xlam i).1 (xlam i).2.1 (xlam i).2.2.1 (xlam i).2.2.2 ∈ flatC (Jvm.Cond.and given_1 narrow_1) := by
  match i, hi with
  | 0, _ => exact xls_0
  | 1, _ => exact xls_1
  | 2, _ => exact xls_2
  | 3, _ => exact xls_3
  | 4, _ => exact xls_4
  | 5, _ => exact xls_5
  | 6, _ => exact xls_6
  | 7, _ => exact xls_7
  | 8, _ => exact xls_8
  | 9, _ => exact xls_9
  | 10, _ => exact xls_10
  | 11, _ => exact xls_11
  | 12, _ => exact xls_12
def xlty (i : Nat) : List FieldType := (xlam i).2.2.2.captured
/-- the fields that the rule's class lays for a shape -/
theorem xls_lays (i : Nat) (hi : i < 13) : (((xlam i).2.2.2.file (xlam i).1.cls).bind (layoutFields · 0)).map (·.2.1) = some (xlty i).toArray := by
  match i, hi with
  | 0, _ => decide +kernel
  | 1, _ => decide +kernel
  | 2, _ => decide +kernel
  | 3, _ => decide +kernel
  | 4, _ => decide +kernel
  | 5, _ => decide +kernel
  | 6, _ => decide +kernel
  | 7, _ => decide +kernel
  | 8, _ => decide +kernel
  | 9, _ => decide +kernel
  | 10, _ => decide +kernel
  | 11, _ => decide +kernel
  | 12, _ => decide +kernel
section XLR
variable {Z : XZ} {κ : XK} {μ : XU} {δ : XT} {pc : Nat} {ls : Array Slot} {st : List Value} {index fr0 lo0 : Nat} {kk : Option Nat → XM}
theorem xlam_at {i : Nat} (hi : i < 13) (G : xG Z) : ∃ c one, xlamAt Z.2.1 i = some (c, one) := Cond.lambdaSite_spec (xpre (xls_all i hi) G)
def xlfit : List FieldType → List Value → Prop
  | .object _ :: ts, v :: vs => (∃ r : Option Nat, v = va_rf r) ∧ xlfit ts vs
  | .int :: ts, v :: vs => (∃ z : Int32, v = .int z) ∧ xlfit ts vs
  | [], [] => True
  | _, _ => False
theorem xs_lamK (i : Nat) (hi13 : i < 13) (hx : (xlam i).1 = ⟨δ.2.2.1, δ.2.2.2.1.1, δ.2.2.2.1.2⟩) (hp : (xlam i).2.1 = pc) (hi : (xlam i).2.2.1 = index) (hc : (xlam i).2.2.2.captured = []) (d : decode δ.1 pc = .ok (.invokedynamic index, 5)) (hμ : μ.2.2 = (fr0, lo0)) (hF : 1 ≤ fr0) (hL : 3080 ≤ lo0) (hW : (st.map fun v => v.category).sum ≤ 8) (hls : ls.size = δ.2.1)
    (K : ∀ x : Option Nat, xS Z κ μ δ (pc + 5) ls (va_rf x :: st) (kk x)) : xS Z κ μ δ pc ls st (xK (40 + i) kk) := by
  intro h o h1 e
  unfold xK at e
  obtain ⟨m, b⟩ := K _ h o h1 e
  refine ⟨m, fun H locs R C q1 q2 q3 q4 q5 q6 q7 q8 q9 => ?_⟩
  obtain ⟨c, one, hat⟩ := xlam_at hi13 C.G
  have hat2 := hat
  unfold xlamAt at hat
  obtain ⟨m', kS, cfS, i0, p0, lk, hm', hkS, hcfS, hshape, -, hfind, hmade, hcan, hlk⟩ := State.lambdaAt?_spec hat
  have hm2 : κ.2.2.2.1.methodNamed? (xlam i).1 = some m' := by
    have := State.methodNamed?_setVm (s := Z.2.1) C.W.alike (xlam i).1
    rw [hm'] at this
    exact this
  rw [hx, C.2.2.2.2.2.2.2.2.1.2] at hm2
  cases hm2
  obtain ⟨a, rfl, rfl⟩ : ∃ a, lk = .constant a ∧ one = some a := by
    rcases hlk with ⟨a, cell, h1, h2, -⟩ | ⟨-, -, h3⟩
    · exact ⟨a, h1, h2⟩
    · exact absurd hc h3
  obtain ⟨k', hk', he⟩ := C.W.alike.2.2 _ _ hkS
  have hfind' : (k'.callSites.find? fun y => y.1 == κ.2.2.2.2.1.idx && y.2.1 == pc) = some (i0, p0, .constant a) := by rw [he, ← hp]; exact hfind
  have hv : h.2.2.2.2 (40 + i) = some a := by
    rw [q2.2.2.2.1, C.G.2.2.2.2.1]
    unfold xcon
    rw [if_neg (by omega), show 40 + i - 40 = i by omega, hat2]
    rfl
  have b := b H locs R C q1 q2 q3 q4 q5 q6 q7 q8 q9
  rw [hv] at b
  intro T hT X
  obtain ⟨t, s1, s2⟩ := b T hT X
  refine ⟨t, X.lambdaConstant C.1 rfl (by show ls.size = _; rw [hls, C.2.2.1]) (by rw [C.2.1]; exact d) hk' hfind' ?_ s1, s2⟩
  rw [X.admits.platform, q7, hμ]
  show 2 * 0 + (st.map fun v => v.category).sum + 3072 ≤ lo0
  omega
theorem xlfit_narrow : ∀ (ts : List FieldType) (vs : List Value), xlfit ts vs → ((ts.zip vs).map fun (t, v) => narrow t v) = vs
  | [], [], _ => rfl
  | .object n :: ts, v :: vs, h => by
    obtain ⟨⟨r, rfl⟩, h2⟩ := h
    have := xlfit_narrow ts vs h2
    simp only [List.zip_cons_cons, List.map_cons, this]
    cases r <;> rfl
  | .int :: ts, v :: vs, h => by
    obtain ⟨⟨z, rfl⟩, h2⟩ := h
    have := xlfit_narrow ts vs h2
    simp only [List.zip_cons_cons, List.map_cons, this]
    rfl
theorem xlfit_fits : ∀ (ts : List FieldType) (vs : List Value), xlfit ts vs → ∀ (j : Nat) (v : Value), vs[j]? = some v → ∃ t, ts[j]? = some t ∧ fits t v = true
  | [], [], _, j, v, h => by simp at h
  | .object n :: ts, v :: vs, h, 0, w, hw => by
    obtain ⟨⟨r, rfl⟩, h2⟩ := h
    simp at hw
    subst hw
    exact ⟨_, rfl, by cases r <;> rfl⟩
  | .int :: ts, v :: vs, h, 0, w, hw => by
    obtain ⟨⟨z, rfl⟩, h2⟩ := h
    simp at hw
    subst hw
    exact ⟨_, rfl, rfl⟩
  | .object n :: ts, v :: vs, h, j + 1, w, hw => xlfit_fits ts vs h.2 j w (by simpa using hw)
  | .int :: ts, v :: vs, h, j + 1, w, hw => xlfit_fits ts vs h.2 j w (by simpa using hw)
theorem xlfit_len : ∀ (ts : List FieldType) (vs : List Value), xlfit ts vs → vs.length = ts.length
  | [], [], _ => rfl
  | .object n :: ts, v :: vs, h => by simp only [List.length_cons, xlfit_len ts vs h.2]
  | .int :: ts, v :: vs, h => by simp only [List.length_cons, xlfit_len ts vs h.2]
theorem xlfit_cat : ∀ (ts : List FieldType) (vs : List Value), xlfit ts vs → (vs.map fun v => v.category).sum = vs.length
  | [], [], _ => rfl
  | .object n :: ts, v :: vs, h => by
    obtain ⟨⟨r, rfl⟩, h2⟩ := h
    have := xlfit_cat ts vs h2
    simp only [List.map_cons, List.sum_cons, List.length_cons, this, xcat_rf]
    omega
  | .int :: ts, v :: vs, h => by
    obtain ⟨⟨z, rfl⟩, h2⟩ := h
    have := xlfit_cat ts vs h2
    simp only [List.map_cons, List.sum_cons, List.length_cons, this, show (Value.int z).category = 1 from rfl]
    omega
theorem xs_lamM (i : Nat) {vals : List Value} (hi13 : i < 13) (hx : (xlam i).1 = ⟨δ.2.2.1, δ.2.2.2.1.1, δ.2.2.2.1.2⟩) (hp : (xlam i).2.1 = pc) (hi : (xlam i).2.2.1 = index) (hv : xlfit (xlam i).2.2.2.captured vals) (hne : vals ≠ [] ∧ vals.length ≤ 2) (d : decode δ.1 pc = .ok (.invokedynamic index, 5)) (hμ : μ.2.2 = (fr0, lo0)) (hF : 1 ≤ fr0) (hL : 3082 ≤ lo0) (hW : (st.map fun v => v.category).sum ≤ 8) (hls : ls.size = δ.2.1)
    (K : ∀ x : Option Nat, xS Z κ μ δ (pc + 5) ls (va_rf x :: st) (kk x)) : xS Z κ μ δ pc ls (vals.reverse ++ st) (xlmk i vals kk) := by
  intro h o h1 e
  unfold xlmk at e
  obtain ⟨m, b⟩ := K _ _ o h1 e
  have m1 : h.2.1 + 1 ≤ h1.2.1 := m.1
  have m2 : h.2.2.1 + vals.length ≤ h1.2.2.1 := m.2
  refine ⟨⟨by omega, by omega⟩, fun H locs R C q1 q2 q3 q4 q5 q6 q7 q8 q9 => ?_⟩
  obtain ⟨c, one, hat⟩ := xlam_at hi13 C.G
  have hat2 := hat
  unfold xlamAt at hat
  obtain ⟨m', kS, cfS, i0, p0, lk, hm', hkS, hcfS, hshape, -, hfind, hmade, hcan, hlk⟩ := State.lambdaAt?_spec hat
  have hm2 : κ.2.2.2.1.methodNamed? (xlam i).1 = some m' := by
    have := State.methodNamed?_setVm (s := Z.2.1) C.W.alike (xlam i).1
    rw [hm'] at this
    exact this
  obtain ⟨kS', hkS', hnameS⟩ := className_of_methodNamed hm'
  cases hkS.symm.trans hkS'
  rw [hx, C.2.2.2.2.2.2.2.2.1.2] at hm2
  cases hm2
  obtain ⟨rfl, rfl⟩ : lk = .makes c ∧ one = none := by
    rcases hlk with ⟨a, cell, -, -, h3, -⟩ | ⟨h1, h2, -⟩
    · rw [h3] at hv
      cases vals with
      | nil => exact absurd rfl hne.1
      | cons v vs => exact absurd hv (by simp [xlfit])
    · exact ⟨h1, h2⟩
  obtain ⟨k', hk', he⟩ := C.W.alike.2.2 _ _ hkS
  have hfind' : (k'.callSites.find? fun y => y.1 == κ.2.2.2.2.1.idx && y.2.1 == pc) = some (i0, p0, .makes c) := by rw [he, ← hp]; exact hfind
  have hcf' : k'.cf = some cfS := by rw [he]; exact hcfS
  obtain ⟨bsm, nt, desc, site, hc0, hnt, hsite, hpar⟩ := xls_site hshape
  rw [hi] at hc0
  have hO := C.G.2.1 _ (lw_at lw_m9 111 rfl : Cond.instantiable "java/lang/Object" 0 ∈ lw_tbl)
  obtain ⟨kK, hkK, htyK, hkindK, hhid⟩ := xls_types hmade hkS hO (by rw [hnameS]; exact xls_lays i hi13)
  obtain ⟨kK', hkK', heK⟩ := C.W.alike.2.2 _ _ hkK
  have hty' : kK'.instanceTypes = (xlty i).toArray := by rw [heK]; exact htyK
  have hkind' : kK'.kind = .ordinary := by rw [heK]; exact hkindK
  have hslots : ((kK'.instanceTypes.toList.zip vals).map fun (t, v) => narrow t v) = vals := by
    rw [hty']
    exact xlfit_narrow _ _ hv
  have hcls : Z.1.2.2 (100 + i) = c := by
    rw [C.G.2.2.2.2.2 i]
    unfold xlamC
    rw [hat2]
    rfl
  intro T hT X
  have hsz : T.heap.size = h.2.1 := by rw [hT]; exact q2.1
  have hcat := xlfit_cat _ _ hv
  have w1 : 2 * (F0 κ.2.2.2.2.1 pc ls (vals.reverse ++ st)).monitorRoom + ((F0 κ.2.2.2.2.1 pc ls (vals.reverse ++ st)).stack.map fun v => v.category).sum + κ.2.2.1.platform.lambdaLinkWords ≤ R.locals := by
    rw [X.admits.platform, q7, hμ]
    show 2 * 0 + ((vals.reverse ++ st).map fun v => v.category).sum + 3072 ≤ lo0
    rw [List.map_append, List.sum_append, List.map_reverse, List.sum_reverse, hcat]
    have := hne.2
    omega
  obtain ⟨X1, st1⟩ := X.lambdaMakes C.1 (g := F0 κ.2.2.2.2.1 pc ls (vals.reverse ++ st)) rfl (by show ls.size = _; rw [hls, C.2.2.1]) (by rw [C.2.1]; exact d) (vals := vals) (rest := st)
    hk' hfind' hcf' hc0 hnt (parseLong_of_parse hsite) (by rw [hpar]; exact xlfit_len _ _ hv) rfl hkK'
    w1 (by omega) (by rw [hslots]; omega)
    (fun j v hj => by
      rw [hslots] at hj
      have hj : vals[j]? = some v := by simpa using hj
      obtain ⟨t, h8, h9⟩ := xlfit_fits _ _ hv j v hj
      have h7 : kK'.instanceTypes[j]? = some t := by
        rw [hty']
        show (xlty i).toArray[j]? = some t
        rw [List.getElem?_toArray]
        exact h8
      simp [State.fitsSlot, State.slotType?, hkK', hkind', h7, h9])
  rw [hslots] at X1 st1
  have hh : (T.pushCell { cls := c, slots := vals.toArray, vm := .none }).heap = T.heap.push { cls := c, slots := vals.toArray, vm := .none } := rfl
  have hrel : xRel Z (xadd h (.inr (100 + i, vals)) vals.length) (T.heap.push { cls := c, slots := vals.toArray, vm := .none }) := by
    rw [hT]
    refine xRel.add q2 (Array.size_push ..) (fun q hq => by rw [Array.getElem?_push]; rw [if_neg (Nat.ne_of_lt hq)]) ?_
    unfold xSt
    dsimp only
    rw [if_neg (by omega), hcls]
    simp
  have b := b _ locs R C ⟨q1.1, q1.2.1, q1.2.2⟩ hrel q3 (by show μ.1 ≤ h.2.1 + 1; omega) (by show μ.2.1 ≤ h.2.2.1 + vals.length; omega) q6 q7 q8 q9
  obtain ⟨t, s1, s2⟩ := b (T.pushCell { cls := c, slots := vals.toArray, vm := .none }) hh (by
    rw [show (xadd h (.inr (100 + i, vals)) vals.length).2.1 - μ.1 = h.2.1 - μ.1 + 1 from by show h.2.1 + 1 - μ.1 = _; omega, show (xadd h (.inr (100 + i, vals)) vals.length).2.2.1 - μ.2.1 = h.2.2.1 - μ.2.1 + vals.toArray.size from by show h.2.2.1 + vals.length - μ.2.1 = _; rw [List.size_toArray]; omega]
    exact X1)
  refine ⟨t, st1 t ?_, s2⟩
  rw [hsz]
  exact s1
theorem xs_upX {E : String} {q : Nat} (hh : ∀ x ∈ tableOf δ.2.2.2.2.2, covers x pc = false) : xSX Z κ μ δ pc ls st E q (xup (E, q)) := by
  intro h o h1 e
  unfold xup at e
  cases e
  refine ⟨xMono.rf _, fun H locs R ce C q1 q2 q3 q4 q5 q6 q7 q8 q9 hce hv hcl => ?_⟩
  exact vx_out (fun x hx => by rw [C.2.2.2.2.2.2.2.1] at hx; exact hh x hx) C.2.2.2.2.2.2.1 hce hv hcl (fun t ht _ => ⟨rfl, by rw [ht]; exact q2⟩) q3 (Nat.le_refl _) (Nat.le_refl _)
end XLR
