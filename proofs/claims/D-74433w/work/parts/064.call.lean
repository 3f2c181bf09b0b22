/-! returns, throws, calls over xS -/
section XCL
variable {Z : XZ} {κ : XK} {μ : XU} {δ : XT} {pc : Nat} {ls : Array Slot} {st rest st0 : List Value} {pr : XM}
/-- an end: out of a law of the kit's that returns -/
theorem xS.end {v : Option Value} (f : ∀ (R : Room) (H : Heap) (locs : List Loc) (cells slots : Nat) (Qc : Array Value → State → Outcome → State → Prop), xC Z κ δ → (∀ t : State, t.heap = H → κ.2.2.2.1.WarmedH t.vm → Qc κ.2.2.2.2.2.1 κ.2.2.2.1 (.returned v) t) → (∀ q ∈ locs, xfree Z q.base) →
    xW κ R H locs cells slots (MQ κ.2.2.2.2.2.2.1 Qc κ.2.2.2.2.2.1 κ.2.2.2.1 cells slots (xfree Z)) (F0 κ.2.2.2.2.1 pc ls st)) : xS Z κ μ δ pc ls st (xret v) := by
  intro h o h1 e
  unfold xret at e
  cases e
  refine ⟨xMono.rf _, fun H locs R C q1 q2 q3 q4 q5 q6 q7 q8 q9 => vx_ret (f R H locs _ _ _ C (fun t ht hW => ⟨v, rfl, rfl, by rw [ht]; exact q2⟩) q3)⟩
theorem xs_iret {x : Int32} (hr : δ.2.2.2.2.1 = some .int) (d : decode δ.1 pc = .ok (.ireturn, 1)) : xS Z κ μ δ pc ls [.int x] (xret (some (.int x))) :=
  xS.end fun R H locs cells slots Qc C hq hf => W.iret C.1 C.2.1 (C.2.2.2.2.2.1.trans hr) hq hf d C.2.2.2.2.2.2.1
theorem xs_zret {x : Int32} (hr : δ.2.2.2.2.1 = some .boolean ∨ δ.2.2.2.2.1 = some .byte) (d : decode δ.1 pc = .ok (.ireturn, 1)) : xS Z κ μ δ pc ls [.int x] (xz01 x (xret (some (.int x)))) := by
  unfold xz01
  split
  · rename_i hx
    rcases hr with hr | hr
    · exact xS.end fun R H locs cells slots Qc C hq hf => W.zret C.1 C.2.1 (C.2.2.2.2.2.1.trans hr) (by rcases hx with rfl | rfl <;> rfl) hq hf d C.2.2.2.2.2.2.1
    · exact xS.end fun R H locs cells slots Qc C hq hf => W.zret C.1 C.2.1 (C.2.2.2.2.2.1.trans hr) (by rcases hx with rfl | rfl <;> rfl) hq hf d C.2.2.2.2.2.2.1
  · exact xS.fail
/-- a char that is one -/
def xcchk (x : Int32) (kk : XM) : XM := if narrow .char (.int x) = .int x then kk else xfail
theorem xs_cret {x : Int32} (hr : δ.2.2.2.2.1 = some .char) (d : decode δ.1 pc = .ok (.ireturn, 1)) : xS Z κ μ δ pc ls [.int x] (xcchk x (xret (some (.int x)))) := by
  unfold xcchk
  split
  · rename_i hx
    exact xS.end fun R H locs cells slots Qc C hq hf => W.zret C.1 C.2.1 (C.2.2.2.2.2.1.trans hr) hx hq hf d C.2.2.2.2.2.2.1
  · exact xS.fail
theorem xs_lret {x : Int64} (hr : δ.2.2.2.2.1 = some .long) (d : decode δ.1 pc = .ok (.lreturn, 1)) : xS Z κ μ δ pc ls [.long x] (xret (some (.long x))) :=
  xS.end fun R H locs cells slots Qc C hq hf => W.lret C.1 C.2.1 (C.2.2.2.2.2.1.trans hr) hq hf d C.2.2.2.2.2.2.1
theorem xs_vret (hr : δ.2.2.2.2.1 = none) (d : decode δ.1 pc = .ok (.return_, 1)) : xS Z κ μ δ pc ls [] (xret none) :=
  xS.end fun R H locs cells slots Qc C hq hf => W.vret C.1 C.2.1 (C.2.2.2.2.2.1.trans hr) hq hf d C.2.2.2.2.2.2.1
theorem xs_aret {x : Option Nat} {rt : FieldType} (hr : δ.2.2.2.2.1 = some rt) (hrt : (∃ n, rt = .object n) ∨ ∃ t, rt = .array t) (d : decode δ.1 pc = .ok (.areturn, 1)) : xS Z κ μ δ pc ls [va_rf x] (xret (some (va_rf x))) :=
  xS.end fun R H locs cells slots Qc C hq hf => W.aret C.1 C.2.1 (C.2.2.2.2.2.1.trans hr) hrt (by cases x with
    | none => exact Or.inl rfl
    | some a => exact Or.inr ⟨a, rfl⟩) hq hf d C.2.2.2.2.2.2.1
/-- not caught: it goes up -/
theorem xs_up {E : String} {q : Nat} (hh : δ.2.2.2.2.2 = []) : xSX Z κ μ δ pc ls st E q (xup (E, q)) := by
  intro h o h1 e
  unfold xup at e
  cases e
  refine ⟨xMono.rf _, fun H locs R ce C q1 q2 q3 q4 q5 q6 q7 q8 q9 hce hv hcl => ?_⟩
  exact vx_out (fun x hx => by rw [C.2.2.2.2.2.2.2.1, hh] at hx; cases hx) C.2.2.2.2.2.2.1 hce hv hcl (fun t ht _ => ⟨rfl, by rw [ht]; exact q2⟩) q3 (Nat.le_refl _) (Nat.le_refl _)
/-- a call's run as the contract says -/
def xRun (Z : XZ) (κ : XK) (μ : XU) (δ : XT) (pc : Nat) (ls : Array Slot) (st0 rest : List Value) (pr : XM) : Prop := ∀ (h : XH) (r : XO) (h1 : XH), pr h = some (r, h1) → xMono h h1 ∧
  ∀ (H : Heap) (locs : List Loc) (cells slots : Nat) (R : Room), xC Z κ δ → xRel Z h H → R.frames = μ.2.2.1 → R.locals = μ.2.2.2 → cells + (h1.2.1 - h.2.1) ≤ R.cells → slots + (h1.2.2.1 - h.2.2.1) ≤ R.slots →
    ∃ a : Array Value, vx_Run κ.1 κ.2.1 κ.2.2.1 R κ.2.2.2.1 κ.2.2.2.2.1 κ.2.2.2.2.2.1 κ.2.2.2.2.2.2.1 κ.2.2.2.2.2.2.2.1 κ.2.2.2.2.2.2.2.2 H locs cells slots (h1.2.1 - h.2.1) (h1.2.2.1 - h.2.2.1) (F0 κ.2.2.2.2.1 pc ls st0) rest (xQc Z r h1 a) (xXC Z r h1) (xfree Z)
theorem xs_call {kk : Option Value → XM} {hd : String × Nat → XM} (hr : xRun Z κ μ δ pc ls st0 rest pr) (K : ∀ v : Option Value, xS Z κ μ δ (pc + 3) ls (v.toList ++ rest) (kk v)) (KX : ∀ (E : String) (q : Nat), xSX Z κ μ δ pc ls rest E q (hd (E, q))) : xS Z κ μ δ pc ls st0 (xcall pr kk hd) := by
  intro h o h1 e
  unfold xcall at e
  split at e
  · cases e
  · rename_i v h2 hx
    obtain ⟨m2, run⟩ := hr h _ h2 hx
    obtain ⟨m, b⟩ := K v h2 o h1 e
    refine ⟨xMono.tr m2 m, fun H locs R C q1 q2 q3 q4 q5 q6 q7 q8 q9 => ?_⟩
    have c1 : h.2.1 - μ.1 + (h2.2.1 - h.2.1) = h2.2.1 - μ.1 := by have := m2.1; omega
    have c2 : h.2.2.1 - μ.2.1 + (h2.2.2.1 - h.2.2.1) = h2.2.2.1 - μ.2.1 := by have := m2.2; omega
    obtain ⟨a, run⟩ := run H locs (h.2.1 - μ.1) (h.2.2.1 - μ.2.1) R C q2 q6 q7 (by rw [c1]; have := m.1; omega) (by rw [c2]; have := m.2; omega)
    intro T hT X
    rcases run T hT X with ⟨v9, st₀, t, T', L, hs0, X', hL, e1, e2, ⟨v8, hv8, ho8, hrel⟩, go⟩ | ⟨q, st₀, t, T', L, E, ce, hs0, X', hL, e1, e2, ⟨hx8, hrel⟩, hce, hcv, hcl, go⟩
    · cases hv8
      cases ho8
      rw [c1, c2] at X'
      obtain ⟨t2, a1, b1⟩ := b T'.heap (locs ++ L) R C q1 (by rw [e1]; exact hrel) (fun z hz => by
        rcases List.mem_append.mp hz with hz | hz
        · exact q3 z hz
        · exact hL z hz) (Nat.le_trans q4 m2.1) (Nat.le_trans q5 m2.2) q6 q7 q8 q9 T' rfl X'
      exact ⟨t2, go t2 a1, b1⟩
    · cases hx8
  · rename_i x h2 hx
    obtain ⟨m2, run⟩ := hr h _ h2 hx
    obtain ⟨m, -⟩ := KX x.1 x.2 h2 o h1 e
    refine ⟨xMono.tr m2 m, fun H locs R C q1 q2 q3 q4 q5 q6 q7 q8 q9 => ?_⟩
    have c1 : h.2.1 - μ.1 + (h2.2.1 - h.2.1) = h2.2.1 - μ.1 := by have := m2.1; omega
    have c2 : h.2.2.1 - μ.2.1 + (h2.2.2.1 - h.2.2.1) = h2.2.2.1 - μ.2.1 := by have := m2.2; omega
    obtain ⟨a, run⟩ := run H locs (h.2.1 - μ.1) (h.2.2.1 - μ.2.1) R C q2 q6 q7 (by rw [c1]; have := m.1; omega) (by rw [c2]; have := m.2; omega)
    intro T hT X
    rcases run T hT X with ⟨v9, st₀, t, T', L, hs0, X', hL, e1, e2, ⟨v8, hv8, ho8, hrel⟩, go⟩ | ⟨q, st₀, t, T', L, E, ce, hs0, X', hL, e1, e2, ⟨hx8, hrel⟩, hce, hcv, hcl, go⟩
    · cases hv8
    · cases hx8
      rw [c1, c2] at X'
      obtain ⟨-, b⟩ := KX E q h2 o h1 e
      obtain ⟨t2, a1, b1⟩ := b T'.heap (locs ++ L) R ce C q1 (by rw [e1]; exact hrel) (fun z hz => by
        rcases List.mem_append.mp hz with hz | hz
        · exact q3 z hz
        · exact hL z hz) (Nat.le_trans q4 m2.1) (Nat.le_trans q5 m2.2) q6 q7 q8 q9 (by rw [e1]; exact hce) hcv hcl T' rfl X'
      exact ⟨t2, go.trans a1, b1⟩
/-- the answer by its type -/
theorem xk_I {kk : Int32 → XM} (K : ∀ x : Int32, xS Z κ μ δ pc ls (.int x :: st) (kk x)) : ∀ v : Option Value, xS Z κ μ δ pc ls (v.toList ++ st) (xkI kk v) := by
  intro v
  unfold xkI
  split
  · exact K _
  · exact xS.fail
theorem xk_L {kk : Int64 → XM} (K : ∀ x : Int64, xS Z κ μ δ pc ls (.long x :: st) (kk x)) : ∀ v : Option Value, xS Z κ μ δ pc ls (v.toList ++ st) (xkL kk v) := by
  intro v
  unfold xkL
  split
  · exact K _
  · exact xS.fail
theorem xk_R {kk : Option Nat → XM} (K : ∀ x : Option Nat, xS Z κ μ δ pc ls (va_rf x :: st) (kk x)) : ∀ v : Option Value, xS Z κ μ δ pc ls (v.toList ++ st) (xkR kk v) := by
  intro v
  unfold xkR
  split
  · exact K none
  · exact K (some _)
  · exact xS.fail
theorem xk_V {kk : XM} (K : xS Z κ μ δ pc ls st kk) : ∀ v : Option Value, xS Z κ μ δ pc ls (v.toList ++ st) (xkV kk v) := by
  intro v
  unfold xkV
  split
  · exact K
  · exact xS.fail
theorem xcall_pre {av : List Value} {h : XH} : FrameBlind (xPc Z av h) := fun a U g mk q => ⟨q.1, q.2.1, q.2.2⟩
theorem xcall_at {av : List Value} {h : XH} {H : Heap} (C : xC Z κ δ) (q : xRel Z h H) : ∀ U : State, U.heap = H → κ.2.2.2.1.WarmedH U.vm → xPc Z av h av.toArray U := fun U hU hW => ⟨rfl, State.WarmedH.trans C.W hW, by rw [hU]; exact q⟩
theorem xrv_some {r : Option Nat} {c : Nat} {h : XH} {x : XO × XH} (e : xrv r c pr h = some x) : ∃ (a : Nat) (fs : List Value), r = some a ∧ h.1 a = some (.inr (c, fs)) ∧ pr h = some x := by
  unfold xrv at e
  split at e
  · cases e
  · rename_i a
    split at e
    · rename_i o ho
      split at e
      · rename_i hc
        obtain ⟨c2, fs⟩ := o
        dsimp only at hc e
        subst hc
        exact ⟨a, fs, rfl, ho, e⟩
      · cases e
    · cases e
/-- the receiver's cell on the machine -/
theorem xrecv {a c : Nat} {fs : List Value} {h : XH} {H : Heap} {q : vw_C} (C : xC Z κ δ) (hR : xRel Z h H) (ha : h.1 a = some (.inr (c, fs))) (hc : xcl[c]? = some q) : ∃ cell : Cell, H[a]? = some cell ∧ cell.vm.isStatics = false ∧ κ.2.2.2.1.vm.findClass q.1 = some cell.cls := by
  obtain ⟨cell, q1, q2, q3, -⟩ := (hR.2.2.2.2.2 a _ ha).1.obj hc
  exact ⟨cell, q1, q3, by rw [q2]; exact (C.K.1 c q hc).2.1⟩
theorem xfix {own : String} (C : xC Z κ δ) (h : δ.2.2.1 = own) : CallFix κ.1 κ.2.2.2.2.1 κ.2.2.2.2.2.2.2.2 δ.1 δ.2.1 κ.2.2.2.1 κ.2.2.2.2.2.1 lw_all own := ⟨C.1, C.2.1, C.2.2.1, by rw [← h]; exact C.own, C.ws⟩
variable {y : MethodName} {yc : ByteArray} {yn fr lo fr0 lo0 n index : Nat} {yr : Option FieldType} {As : List Value}
/-- invokevirtual of a class's own method -/
theorem xr_V {r : Option Nat} {c : Nat} {q : vw_C} (hM : xMet Z y yc yn yr fr lo (va_rf r :: As) pr) (hc : xcl[c]? = some q) (hw : GoodIn lw_all (wsV δ.2.2.1 index q.1 y (ws_ y yc yn yr))) (hd : y.cls = q.1 ∧ y.cls ≠ "java/lang/invoke/MethodHandle" ∧ y.cls ≠ "java/lang/invoke/VarHandle" ∧ (parseMethodDescriptor y.desc).map (fun d => d.parameters.length) = some n) (hn : As.length = n) (hst : st0 = As.reverse ++ va_rf r :: rest)
    (d : decode δ.1 pc = .ok (.invokevirtual index, 3)) (hμ : μ.2.2 = (fr0, lo0)) (hF : fr + 1 ≤ fr0) (hL : 8 + (yn + 11) + lo ≤ lo0) (hW : (rest.map fun v => v.category).sum ≤ 8) (hls : ls.size = δ.2.1) : xRun Z κ μ δ pc ls st0 rest (xrv r c pr) := by
  intro h r9 h1 e
  obtain ⟨a, fs, rfl, ha, e⟩ := xrv_some e
  obtain ⟨m, met⟩ := hM h r9 h1 e
  refine ⟨m, fun H locs cells slots R C q2 q6 q7 q8 q9 => ⟨(va_rf (some a) :: As).toArray, ?_⟩⟩
  have met := met C.G
  rw [← C.l] at met
  subst hst
  refine vx_runV (As := As) (b := a) (n := n) (xfix C rfl) met (cwV n C.ws hw rfl rfl rfl hd ⟨by rw [q6, hμ]; exact hF, by rw [q7, hμ]; exact hL⟩) ⟨xcall_pre, xrecv C q2 ha hc, xcall_at C q2⟩ rfl hn hls rfl (lv_room hW) d ⟨q8, q9⟩
/-- invokestatic -/
theorem xr_S (hM : xMet Z y yc yn yr fr lo As pr) (hw : GoodIn lw_all (va_wsS δ.2.2.1 index y (ws_ y yc yn yr))) (hd : y.cls ≠ "java/lang/invoke/MethodHandle" ∧ y.cls ≠ "java/lang/invoke/VarHandle" ∧ (parseMethodDescriptor y.desc).map (fun d => d.parameters.length) = some n) (hn : As.length = n) (hst : st0 = As.reverse ++ rest)
    (d : decode δ.1 pc = .ok (.invokestatic index, 3)) (hμ : μ.2.2 = (fr0, lo0)) (hF : fr + 1 ≤ fr0) (hL : 8 + (yn + 11) + lo ≤ lo0) (hW : (rest.map fun v => v.category).sum ≤ 8) (hls : ls.size = δ.2.1) : xRun Z κ μ δ pc ls st0 rest pr := by
  intro h r9 h1 e
  obtain ⟨m, met⟩ := hM h r9 h1 e
  refine ⟨m, fun H locs cells slots R C q2 q6 q7 q8 q9 => ⟨As.toArray, ?_⟩⟩
  have met := met C.G
  rw [← C.l] at met
  subst hst
  exact vx_runS (As := As) (n := n) (xfix C rfl) met (va_cwS n C.ws hw rfl rfl rfl hd ⟨by rw [q6, hμ]; exact hF, by rw [q7, hμ]; exact hL⟩) ⟨xcall_pre, xcall_at C q2⟩ rfl hn hls rfl (lv_room hW) d ⟨q8, q9⟩
theorem xnn_some {r : Option Nat} {h : XH} {x : XO × XH} (e : xnn r pr h = some x) : ∃ a : Nat, r = some a ∧ pr h = some x := by
  cases r with
  | none => cases e
  | some a => exact ⟨a, rfl, e⟩
/-- invokespecial of a constructor -/
theorem xr_I {r : Option Nat} (hM : xMet Z y yc yn none fr lo (va_rf r :: As) pr) (hw : GoodIn lw_all (ws_ y yc yn none)) (h1 : Cond.methodLink δ.2.2.1 index y ∈ lw_all) (h2 : Cond.instanceMethod y ∈ lw_all) (h3 : Cond.initialized y.cls ∈ lw_all) (hi : y.name = "<init>") (hd : y.cls ≠ "java/lang/invoke/MethodHandle" ∧ y.cls ≠ "java/lang/invoke/VarHandle" ∧ (parseMethodDescriptor y.desc).map (fun d => d.parameters.length) = some n) (hn : As.length = n) (hst : st0 = As.reverse ++ va_rf r :: rest)
    (d : decode δ.1 pc = .ok (.invokespecial index, 3)) (hμ : μ.2.2 = (fr0, lo0)) (hF : fr + 1 ≤ fr0) (hL : 8 + (yn + 11) + lo ≤ lo0) (hW : (rest.map fun v => v.category).sum ≤ 8) (hls : ls.size = δ.2.1) : xRun Z κ μ δ pc ls st0 rest (xnn r pr) := by
  intro h r9 h1 e
  obtain ⟨a, rfl, e⟩ := xnn_some e
  obtain ⟨m, met⟩ := hM h r9 h1 e
  refine ⟨m, fun H locs cells slots R C q2 q6 q7 q8 q9 => ⟨(va_rf (some a) :: As).toArray, ?_⟩⟩
  have met := met C.G
  rw [← C.l] at met
  subst hst
  exact vx_runI (As := As) (b := a) (n := n) (xfix C rfl) met (cwI n C.ws hw rfl rfl rfl (C.ws _ h3) (C.ws _ (by assumption)) (C.ws _ h2) hi hd ⟨by rw [q6, hμ]; exact hF, by rw [q7, hμ]; exact hL⟩) ⟨xcall_pre, xcall_at C q2⟩ rfl hn hls rfl (lv_room hW) d ⟨q8, q9⟩
/-- Object's constructor -/
theorem xs_objInit {r : Option Nat} (h1 : Cond.methodLink δ.2.2.1 index objectInit ∈ lw_all) (h2 : Cond.instanceMethod objectInit ∈ lw_all) (h3 : Cond.code objectInit ⟨#[0xb1]⟩ 1 none ∈ lw_all) (d : decode δ.1 pc = .ok (.invokespecial index, 3)) (hμ : μ.2.2 = (fr0, lo0)) (hF : 1 ≤ fr0) (hL : 20 ≤ lo0) (hW : (rest.map fun v => v.category).sum ≤ 8) (hls : ls.size = δ.2.1) (K : xS Z κ μ δ (pc + 3) ls rest pr) : xS Z κ μ δ pc ls (va_rf r :: rest) (xnn r pr) := by
  intro h o h9 e
  obtain ⟨a, rfl, e⟩ := xnn_some e
  obtain ⟨m, b⟩ := K h o h9 e
  refine ⟨m, fun H locs R C q1 q2 q3 q4 q5 q6 q7 q8 q9 => ?_⟩
  refine W.objInit C.1 C.2.1 C.own (C.ws _ h1) (C.ws _ h2) (C.ws _ h3) rfl (hls.trans C.2.2.1.symm) rfl d (by rw [q6, hμ]; exact hF) ?_ (b H locs R C q1 q2 q3 q4 q5 q6 q7 q8 q9)
  have := lv_room (m := κ.2.2.2.2.1) (pc := pc) (ls := ls) (rest := va_rf (some a) :: rest) hW
  rw [q7, hμ]
  dsimp only at this ⊢
  omega
end XCL
