/-! word lists of calls, by their single words; fuel -/
theorem xw_S {own : String} {idx : Nat} {y : MethodName} {b : ByteArray} {L : Nat} {r : Option FieldType} (h1 : Cond.methodLink own idx y ∈ lw_all) (h2 : Cond.static y ∈ lw_all) (h3 : Cond.initialized y.cls ∈ lw_all) (h4 : Cond.code y b L r ∈ lw_all) : GoodIn lw_all (va_wsS own idx y (ws_ y b L r)) :=
  lw_app (fun w hw => by
    rcases List.mem_cons.mp hw with rfl | hw
    · exact h1
    rcases List.mem_cons.mp hw with rfl | hw
    · exact h2
    rw [List.mem_singleton.mp hw]
    exact h3) (lw_meth h4)
theorem xw_SX {own : String} {idx : Nat} {y : MethodName} {b : ByteArray} {L : Nat} {r : Option FieldType} {hh : List (Nat × Nat × Nat × Nat)} (h1 : Cond.methodLink own idx y ∈ lw_all) (h2 : Cond.static y ∈ lw_all) (h3 : Cond.initialized y.cls ∈ lw_all) (h4 : Cond.codeWith y b L r hh ∈ lw_all) : GoodIn lw_all (va_wsS own idx y (wsW_ y b L r hh)) :=
  lw_app (fun w hw => by
    rcases List.mem_cons.mp hw with rfl | hw
    · exact h1
    rcases List.mem_cons.mp hw with rfl | hw
    · exact h2
    rw [List.mem_singleton.mp hw]
    exact h3) (lw_methW h4)
theorem xw_U {own C owner : String} {idx : Nat} {x y : MethodName} {b : ByteArray} {L : Nat} {r : Option FieldType} (h1 : Cond.methodLink own idx x ∈ lw_all) (h2 : Cond.sameMethod x.cls owner x.name x.desc ∈ lw_all) (h3 : Cond.selects C x y ∈ lw_all) (h4 : Cond.instanceMethod y ∈ lw_all) (h5 : Cond.initialized y.cls ∈ lw_all) (h6 : Cond.code y b L r ∈ lw_all) : GoodIn lw_all (va_wsU own idx C owner x y (ws_ y b L r)) :=
  lw_app (fun w hw => by
    rcases List.mem_cons.mp hw with rfl | hw
    · exact h1
    rcases List.mem_cons.mp hw with rfl | hw
    · exact h2
    rcases List.mem_cons.mp hw with rfl | hw
    · exact h3
    rcases List.mem_cons.mp hw with rfl | hw
    · exact h4
    rw [List.mem_singleton.mp hw]
    exact h5) (lw_meth h6)
theorem xw_O {own C owner : String} {idx : Nat} {x y : MethodName} {b : ByteArray} {L : Nat} {r : Option FieldType} (h1 : Cond.methodLink own idx x ∈ lw_all) (h2 : Cond.sameMethod x.cls owner x.name x.desc ∈ lw_all) (h2' : Cond.instanceMethod ⟨owner, x.name, x.desc⟩ ∈ lw_all) (h3 : Cond.selects C x y ∈ lw_all) (h4 : Cond.instanceMethod y ∈ lw_all) (h5 : Cond.initialized y.cls ∈ lw_all) (h6 : Cond.code y b L r ∈ lw_all) : GoodIn lw_all (va_wsO own idx C owner x y (ws_ y b L r)) :=
  lw_app (fun w hw => by
    rcases List.mem_cons.mp hw with rfl | hw
    · exact h1
    rcases List.mem_cons.mp hw with rfl | hw
    · exact h2
    rcases List.mem_cons.mp hw with rfl | hw
    · exact h2'
    rcases List.mem_cons.mp hw with rfl | hw
    · exact h3
    rcases List.mem_cons.mp hw with rfl | hw
    · exact h4
    rw [List.mem_singleton.mp hw]
    exact h5) (lw_meth h6)
theorem xw_SU {own : String} {idx : Nat} {y : MethodName} {b : ByteArray} {L : Nat} {r : Option FieldType} (h1 : Cond.methodLink own idx y ∈ lw_all) (h2 : Cond.sameMethod y.cls y.cls y.name y.desc ∈ lw_all) (h3 : Cond.superclass own y.cls ∈ lw_all) (h4 : Cond.instanceMethod y ∈ lw_all) (h5 : Cond.initialized y.cls ∈ lw_all) (h6 : Cond.code y b L r ∈ lw_all) : GoodIn lw_all (va_wsSU own idx y (ws_ y b L r)) :=
  lw_app (fun w hw => by
    rcases List.mem_cons.mp hw with rfl | hw
    · exact h1
    rcases List.mem_cons.mp hw with rfl | hw
    · exact h2
    rcases List.mem_cons.mp hw with rfl | hw
    · exact h3
    rcases List.mem_cons.mp hw with rfl | hw
    · exact h4
    rw [List.mem_singleton.mp hw]
    exact h5) (lw_meth h6)
theorem xw_F {own C : String} {idx : Nat} {x y : MethodName} {b : ByteArray} {L : Nat} {r : Option FieldType} (h1 : Cond.methodLink own idx x ∈ lw_all) (h2 : Cond.selects C x y ∈ lw_all) (h3 : Cond.instanceMethod y ∈ lw_all) (h4 : Cond.initialized y.cls ∈ lw_all) (h5 : Cond.code y b L r ∈ lw_all) : GoodIn lw_all (va_wsF own idx C x y (ws_ y b L r)) :=
  lw_app (fun w hw => by
    rcases List.mem_cons.mp hw with rfl | hw
    · exact h1
    rcases List.mem_cons.mp hw with rfl | hw
    · exact h2
    rcases List.mem_cons.mp hw with rfl | hw
    · exact h3
    rw [List.mem_singleton.mp hw]
    exact h4) (lw_meth h5)
theorem xcat0 : (([] : List Value).map fun v => v.category).sum ≤ 8 := Nat.le_of_ble_eq_true rfl
theorem xcatC {v : Value} {l : List Value} {k n : Nat} (h1 : v.category ≤ k) (h2 : (l.map fun v => v.category).sum ≤ n) (h3 : k + n ≤ 8) : ((v :: l).map fun v => v.category).sum ≤ 8 := by
  simp only [List.map_cons, List.sum_cons]
  omega
/-- how often a loop may be run through -/
def xfuel : Nat := 1000000
/-- a lambda's object -/
def xlmk (site : Nat) (vals : List Value) (kk : Option Nat → XM) : XM := fun h => kk (some h.2.1) (xadd h (.inr (100 + site, vals)) vals.length)
/-- the class of a cell -/
def xcls (h : XH) (r : Option Nat) : Option Nat := match r with
  | none => none
  | some a => match h.1 a with
    | some (.inr o) => some o.1
    | _ => none
theorem xcat00 : (([] : List Value).map fun v => v.category).sum ≤ 0 := Nat.le_refl _
theorem xcatN {v : Value} {l : List Value} {k n : Nat} (h1 : v.category ≤ k) (h2 : (l.map fun v => v.category).sum ≤ n) : ((v :: l).map fun v => v.category).sum ≤ k + n := by
  simp only [List.map_cons, List.sum_cons]
  omega
def xargl (i : Nat) : List Nat → List Value → List (Nat × Value)
  | k :: ks, v :: vs => (i, v) :: xargl (i + k) ks vs
  | _, _ => []
theorem xargl_eq : ∀ (ks : List Nat) (av : List Value) (i : Nat), av.map (fun v => v.category) = ks → (∀ k ∈ ks, k = 1 ∨ k = 2) → lv_args i av = xargl i ks av ∧ (lg_sl av).length = ks.sum := by
  intro ks av
  induction av generalizing ks with
  | nil =>
    intro i h _
    subst h
    exact ⟨rfl, rfl⟩
  | cons v vs ih =>
    intro i h hk
    subst h
    obtain ⟨e1, e2⟩ := ih _ (if v.category = 2 then i + 2 else i + 1) rfl (fun k hk' => hk k (List.mem_cons_of_mem _ hk'))
    have hv : v.category = 1 ∨ v.category = 2 := hk _ List.mem_cons_self
    refine ⟨?_, ?_⟩
    · show (i, v) :: lv_args _ vs = (i, v) :: xargl (i + v.category) _ vs
      rw [e1]
      rcases hv with h | h
      · rw [h, if_neg (by decide)]
      · rw [h, if_pos rfl]
    · unfold lg_sl at e2 ⊢
      rw [List.flatMap_cons, List.length_append, e2]
      rcases hv with h | h
      · simp [h]
      · simp [h]
section XEN
variable {Z : XZ} {y : MethodName} {cc : ByteArray} {nL : Nat} {ret : Option FieldType} {fr lo : Nat} {av : List Value} {pr : XM} {hh : List (Nat × Nat × Nat × Nat)}
theorem xMet.of2 {ks : List Nat} (hy : plainFor y = true) (hk : av.map (fun v => v.category) = ks) (hn : (∀ k ∈ ks, k = 1 ∨ k = 2) ∧ ks.sum ≤ nL) (body : ∀ (κ : XK) (μ : XU) (ls : Array Slot), μ.2.2 = (fr, lo) → lv_has ls nL (xargl 0 ks av) → xS Z κ μ (cc, nL, y.cls, (y.name, y.desc), ret, []) 0 ls [] pr) : xMet Z y cc nL ret fr lo av pr := by
  obtain ⟨e1, e2⟩ := xargl_eq ks av 0 hk hn.1
  refine xMet.of hy (by rw [e2]; exact hn.2) fun κ μ ls h1 h2 => body κ μ ls h1 ?_
  rw [← e1]
  exact h2
theorem xMetW.of2 {ks : List Nat} (hy : plainFor y = true) (hk : av.map (fun v => v.category) = ks) (hn : (∀ k ∈ ks, k = 1 ∨ k = 2) ∧ ks.sum ≤ nL) (body : ∀ (κ : XK) (μ : XU) (ls : Array Slot), μ.2.2 = (fr, lo) → lv_has ls nL (xargl 0 ks av) → xS Z κ μ (cc, nL, y.cls, (y.name, y.desc), ret, hh) 0 ls [] pr) : xMetW Z y cc nL ret hh fr lo av pr := by
  obtain ⟨e1, e2⟩ := xargl_eq ks av 0 hk hn.1
  refine xMetW.of hy (by rw [e2]; exact hn.2) fun κ μ ls h1 h2 => body κ μ ls h1 ?_
  rw [← e1]
  exact h2
variable {κ : XK} {μ : XU} {δ : XT} {pc : Nat} {ls : Array Slot} {st : List Value} {E : String} {q : Nat} {pt pf : XM}
theorem xSX.fail : xSX Z κ μ δ pc ls st E q xfail := fun h r h1 e => by cases e
theorem xS.ifE {c : Prop} [Decidable c] (k1 : c → xSX Z κ μ δ pc ls st E q pt) (k2 : ¬ c → xSX Z κ μ δ pc ls st E q pf) : xSX Z κ μ δ pc ls st E q (if c then pt else pf) := by
  by_cases h : c
  · rw [if_pos h]; exact k1 h
  · rw [if_neg h]; exact k2 h
end XEN
def xPass (own E : String) (pc : Nat) (z : ExceptionTableEntry) : Prop := covers z pc = false ∨ (z.catchType ≠ 0 ∧ ∃ nm : String, Cond.classLink own z.catchType nm ∈ lw_all ∧ ∀ (A : Array Value) (S : State), (Jvm.Cond.and given_1 narrow_1).before A S = true → va_Nc E nm S)
theorem xpass_nil {own E : String} {pc : Nat} : ∀ z ∈ tableOf [], xPass own E pc z := fun z hz => by simp [tableOf] at hz
theorem xpass_cons {own E nm : String} {pc : Nat} {x : Nat × Nat × Nat × Nat} {l : List (Nat × Nat × Nat × Nat)} (h0 : x.2.2.2 ≠ 0) (hl : Cond.classLink own x.2.2.2 nm ∈ lw_all) (hn : ∀ (A : Array Value) (S : State), (Jvm.Cond.and given_1 narrow_1).before A S = true → va_Nc E nm S) (k : ∀ z ∈ tableOf l, xPass own E pc z) : ∀ z ∈ tableOf (x :: l), xPass own E pc z := by
  intro z hz
  unfold tableOf at hz
  rw [List.map_cons] at hz
  rcases List.mem_cons.mp hz with rfl | hz
  · exact Or.inr ⟨h0, nm, hl, hn⟩
  · exact k z hz
theorem xpass_skip {own E : String} {pc : Nat} {x : Nat × Nat × Nat × Nat} {l : List (Nat × Nat × Nat × Nat)} (h0 : covers (⟨x.1, x.2.1, x.2.2.1, x.2.2.2⟩ : ExceptionTableEntry) pc = false) (k : ∀ z ∈ tableOf l, xPass own E pc z) : ∀ z ∈ tableOf (x :: l), xPass own E pc z := by
  intro z hz
  unfold tableOf at hz
  rw [List.map_cons] at hz
  rcases List.mem_cons.mp hz with rfl | hz
  · exact Or.inl h0
  · exact k z hz
