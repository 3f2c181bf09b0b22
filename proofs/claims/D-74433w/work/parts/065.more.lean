/-! the other calls over xS -/
section XMR
variable {Z : XZ} {κ : XK} {μ : XU} {δ : XT} {pc : Nat} {ls : Array Slot} {st rest st0 : List Value} {pr : XM}
variable {x y : MethodName} {yc : ByteArray} {yn fr lo fr0 lo0 n index count : Nat} {yr : Option FieldType} {As : List Value}
/-- invokevirtual through a reference to a method that the class inherits -/
theorem xr_U {r : Option Nat} {c : Nat} {q : vw_C} (hM : xMet Z y yc yn yr fr lo (va_rf r :: As) pr) (hc : xcl[c]? = some q) (hw : GoodIn lw_all (va_wsU δ.2.2.1 index q.1 x.cls x y (ws_ y yc yn yr))) (hyx : y = ⟨x.cls, x.name, x.desc⟩) (hd : x.cls ≠ "java/lang/invoke/MethodHandle" ∧ x.cls ≠ "java/lang/invoke/VarHandle" ∧ (parseMethodDescriptor x.desc).map (fun d => d.parameters.length) = some n) (hn : As.length = n) (hst : st0 = As.reverse ++ va_rf r :: rest)
    (d : decode δ.1 pc = .ok (.invokevirtual index, 3)) (hμ : μ.2.2 = (fr0, lo0)) (hF : fr + 1 ≤ fr0) (hL : 8 + (yn + 11) + lo ≤ lo0) (hW : (rest.map fun v => v.category).sum ≤ 8) (hls : ls.size = δ.2.1) : xRun Z κ μ δ pc ls st0 rest (xrv r c pr) := by
  intro h r9 h1 e
  obtain ⟨a, fs, rfl, ha, e⟩ := xrv_some e
  obtain ⟨m, met⟩ := hM h r9 h1 e
  refine ⟨m, fun H locs cells slots R C q2 q6 q7 q8 q9 => ⟨(va_rf (some a) :: As).toArray, ?_⟩⟩
  have met := met C.G
  rw [← C.l] at met
  subst hst
  exact vx_runU (As := As) (b := a) (n := n) (xfix C rfl) met (va_cwU n C.ws hw rfl rfl rfl hyx hd ⟨by rw [q6, hμ]; exact hF, by rw [q7, hμ]; exact hL⟩) ⟨xcall_pre, xrecv C q2 ha hc, xcall_at C q2⟩ rfl hn hls rfl (lv_room hW) d ⟨q8, q9⟩
/-- invokevirtual through a reference to a method that the class overrides; what the reference names is declared -/
theorem xr_A {r : Option Nat} {c : Nat} {q : vw_C} (hM : xMet Z y yc yn yr fr lo (va_rf r :: As) pr) (hc : xcl[c]? = some q) (hw : GoodIn lw_all (va_wsU δ.2.2.1 index q.1 x.cls x y (ws_ y yc yn yr))) (hz : Cond.declares ⟨x.cls, x.name, x.desc⟩ ∈ lw_tbl) (hd : x.cls ≠ "java/lang/invoke/MethodHandle" ∧ x.cls ≠ "java/lang/invoke/VarHandle" ∧ (parseMethodDescriptor x.desc).map (fun d => d.parameters.length) = some n) (hn : As.length = n) (hst : st0 = As.reverse ++ va_rf r :: rest)
    (d : decode δ.1 pc = .ok (.invokevirtual index, 3)) (hμ : μ.2.2 = (fr0, lo0)) (hF : fr + 1 ≤ fr0) (hL : 8 + (yn + 11) + lo ≤ lo0) (hW : (rest.map fun v => v.category).sum ≤ 8) (hls : ls.size = δ.2.1) : xRun Z κ μ δ pc ls st0 rest (xrv r c pr) := by
  intro h r9 h1 e
  obtain ⟨a, fs, rfl, ha, e⟩ := xrv_some e
  obtain ⟨m, met⟩ := hM h r9 h1 e
  refine ⟨m, fun H locs cells slots R C q2 q6 q7 q8 q9 => ⟨(va_rf (some a) :: As).toArray, ?_⟩⟩
  have met := met C.G
  rw [← C.l] at met
  subst hst
  exact vx_runU (As := As) (b := a) (n := n) (xfix C rfl) met (va_cwA n C.ws hw rfl rfl rfl (va_Nw.warmD C.W (C.tbl hz rfl)) hd ⟨by rw [q6, hμ]; exact hF, by rw [q7, hμ]; exact hL⟩) ⟨xcall_pre, xrecv C q2 ha hc, xcall_at C q2⟩ rfl hn hls rfl (lv_room hW) d ⟨q8, q9⟩
/-- invokevirtual through a reference to a method that the class overrides; what the reference names has code -/
theorem xr_O {r : Option Nat} {c : Nat} {q : vw_C} (hM : xMet Z y yc yn yr fr lo (va_rf r :: As) pr) (hc : xcl[c]? = some q) (hw : GoodIn lw_all (va_wsO δ.2.2.1 index q.1 x.cls x y (ws_ y yc yn yr))) {b0 : ByteArray} {m0 : Nat} {r0 : Option FieldType} (hz : Cond.code ⟨x.cls, x.name, x.desc⟩ b0 m0 r0 ∈ lw_all) (hd : x.cls ≠ "java/lang/invoke/MethodHandle" ∧ x.cls ≠ "java/lang/invoke/VarHandle" ∧ (parseMethodDescriptor x.desc).map (fun d => d.parameters.length) = some n) (hn : As.length = n) (hst : st0 = As.reverse ++ va_rf r :: rest)
    (d : decode δ.1 pc = .ok (.invokevirtual index, 3)) (hμ : μ.2.2 = (fr0, lo0)) (hF : fr + 1 ≤ fr0) (hL : 8 + (yn + 11) + lo ≤ lo0) (hW : (rest.map fun v => v.category).sum ≤ 8) (hls : ls.size = δ.2.1) : xRun Z κ μ δ pc ls st0 rest (xrv r c pr) := by
  intro h r9 h1 e
  obtain ⟨a, fs, rfl, ha, e⟩ := xrv_some e
  obtain ⟨m, met⟩ := hM h r9 h1 e
  refine ⟨m, fun H locs cells slots R C q2 q6 q7 q8 q9 => ⟨(va_rf (some a) :: As).toArray, ?_⟩⟩
  have met := met C.G
  rw [← C.l] at met
  subst hst
  exact vx_runU (As := As) (b := a) (n := n) (xfix C rfl) met (va_cwO n C.ws hw rfl rfl rfl hz hd ⟨by rw [q6, hμ]; exact hF, by rw [q7, hμ]; exact hL⟩) ⟨xcall_pre, xrecv C q2 ha hc, xcall_at C q2⟩ rfl hn hls rfl (lv_room hW) d ⟨q8, q9⟩
theorem xC.at (C : xC Z κ δ) {c : Nat} {q : vw_C} (hc : xcl[c]? = some q) : ClassAt κ.2.2.2.1 q.1 (Z.1.1.1 c) := (C.K.1 c q hc).2
/-- invokespecial of a method of the superclass -/
theorem xr_SU {r : Option Nat} {c : Nat} {q : vw_C} (hM : xMet Z y yc yn yr fr lo (va_rf r :: As) pr) (hc : xcl[c]? = some q) (hw : GoodIn lw_all (va_wsSU δ.2.2.1 index y (ws_ y yc yn yr))) (hd : y.name ≠ "<init>" ∧ (parseMethodDescriptor y.desc).map (fun d => d.parameters.length) = some n) (hn : As.length = n) (hst : st0 = As.reverse ++ va_rf r :: rest)
    (d : decode δ.1 pc = .ok (.invokespecial index, 3)) (hμ : μ.2.2 = (fr0, lo0)) (hF : fr + 1 ≤ fr0) (hL : 8 + (yn + 11) + lo ≤ lo0) (hW : (rest.map fun v => v.category).sum ≤ 8) (hls : ls.size = δ.2.1) : xRun Z κ μ δ pc ls st0 rest (xrv r c pr) := by
  intro h r9 h1 e
  obtain ⟨a, fs, rfl, ha, e⟩ := xrv_some e
  obtain ⟨m, met⟩ := hM h r9 h1 e
  refine ⟨m, fun H locs cells slots R C q2 q6 q7 q8 q9 => ⟨(va_rf (some a) :: As).toArray, ?_⟩⟩
  have met := met C.G
  rw [← C.l] at met
  subst hst
  exact vx_runSU (As := As) (b := a) (n := n) (C.at hc) (xfix C rfl) met (va_cwSU n C.ws hw rfl rfl rfl hd ⟨by rw [q6, hμ]; exact hF, by rw [q7, hμ]; exact hL⟩) ⟨xcall_pre, xrecv C q2 ha hc, xcall_at C q2⟩ rfl hn hls rfl (lv_room hW) d ⟨q8, q9⟩
/-- a nest mate's private methods -/
theorem xr_VN {host : String} {r : Option Nat} {c : Nat} {q : vw_C} (hM : xMet Z y yc yn yr fr lo (va_rf r :: As) pr) (hc : xcl[c]? = some q) (hw : GoodIn lw_all (ws_ y yc yn yr)) (hl : Cond.methodLinkNest δ.2.2.1 index y host ∈ lw_tbl) (w3 : Cond.initialized y.cls ∈ lw_all) (w1 : Cond.instanceMethod y ∈ lw_all) (w2 : Cond.selects q.1 y y ∈ lw_all) (hd : y.cls ≠ "java/lang/invoke/MethodHandle" ∧ y.cls ≠ "java/lang/invoke/VarHandle" ∧ (parseMethodDescriptor y.desc).map (fun d => d.parameters.length) = some n) (hn : As.length = n) (hst : st0 = As.reverse ++ va_rf r :: rest)
    (d : decode δ.1 pc = .ok (.invokevirtual index, 3)) (hμ : μ.2.2 = (fr0, lo0)) (hF : fr + 1 ≤ fr0) (hL : 8 + (yn + 11) + lo ≤ lo0) (hW : (rest.map fun v => v.category).sum ≤ 8) (hls : ls.size = δ.2.1) : xRun Z κ μ δ pc ls st0 rest (xrv r c pr) := by
  intro h r9 h1 e
  obtain ⟨a, fs, rfl, ha, e⟩ := xrv_some e
  obtain ⟨m, met⟩ := hM h r9 h1 e
  refine ⟨m, fun H locs cells slots R C q2 q6 q7 q8 q9 => ⟨(va_rf (some a) :: As).toArray, ?_⟩⟩
  have met := met C.G
  rw [← C.l] at met
  subst hst
  exact vx_runVN (As := As) (b := a) (n := n) (C := q.1) (xfix C rfl) met ⟨va_cnB n C.ws hw rfl rfl rfl (va_Nw.warmM C.W (C.tbl hl rfl)) (C.ws _ w3) hd ⟨by rw [q6, hμ]; exact hF, by rw [q7, hμ]; exact hL⟩, C.ws _ w1, C.ws _ w2⟩ ⟨xcall_pre, xrecv C q2 ha hc, xcall_at C q2⟩ rfl hn hls rfl (lv_room hW) d ⟨q8, q9⟩
theorem xr_SN {host : String} (hM : xMet Z y yc yn yr fr lo As pr) (hw : GoodIn lw_all (ws_ y yc yn yr)) (hl : Cond.methodLinkNest δ.2.2.1 index y host ∈ lw_tbl) (w3 : Cond.initialized y.cls ∈ lw_all) (w1 : Cond.static y ∈ lw_all) (hd : y.cls ≠ "java/lang/invoke/MethodHandle" ∧ y.cls ≠ "java/lang/invoke/VarHandle" ∧ (parseMethodDescriptor y.desc).map (fun d => d.parameters.length) = some n) (hn : As.length = n) (hst : st0 = As.reverse ++ rest)
    (d : decode δ.1 pc = .ok (.invokestatic index, 3)) (hμ : μ.2.2 = (fr0, lo0)) (hF : fr + 1 ≤ fr0) (hL : 8 + (yn + 11) + lo ≤ lo0) (hW : (rest.map fun v => v.category).sum ≤ 8) (hls : ls.size = δ.2.1) : xRun Z κ μ δ pc ls st0 rest pr := by
  intro h r9 h1 e
  obtain ⟨m, met⟩ := hM h r9 h1 e
  refine ⟨m, fun H locs cells slots R C q2 q6 q7 q8 q9 => ⟨As.toArray, ?_⟩⟩
  have met := met C.G
  rw [← C.l] at met
  subst hst
  exact vx_runSN (As := As) (n := n) (xfix C rfl) met ⟨va_cnB n C.ws hw rfl rfl rfl (va_Nw.warmM C.W (C.tbl hl rfl)) (C.ws _ w3) hd ⟨by rw [q6, hμ]; exact hF, by rw [q7, hμ]; exact hL⟩, C.ws _ w1, trivial⟩ ⟨xcall_pre, xcall_at C q2⟩ rfl hn hls rfl (lv_room hW) d ⟨q8, q9⟩
theorem xr_IN {host : String} {r : Option Nat} (hM : xMet Z y yc yn none fr lo (va_rf r :: As) pr) (hw : GoodIn lw_all (ws_ y yc yn none)) (hl : Cond.methodLinkNest δ.2.2.1 index y host ∈ lw_tbl) (w3 : Cond.initialized y.cls ∈ lw_all) (w1 : Cond.instanceMethod y ∈ lw_all) (hi : y.name = "<init>") (hd : y.cls ≠ "java/lang/invoke/MethodHandle" ∧ y.cls ≠ "java/lang/invoke/VarHandle" ∧ (parseMethodDescriptor y.desc).map (fun d => d.parameters.length) = some n) (hn : As.length = n) (hst : st0 = As.reverse ++ va_rf r :: rest)
    (d : decode δ.1 pc = .ok (.invokespecial index, 3)) (hμ : μ.2.2 = (fr0, lo0)) (hF : fr + 1 ≤ fr0) (hL : 8 + (yn + 11) + lo ≤ lo0) (hW : (rest.map fun v => v.category).sum ≤ 8) (hls : ls.size = δ.2.1) : xRun Z κ μ δ pc ls st0 rest (xnn r pr) := by
  intro h r9 h1 e
  obtain ⟨a, rfl, e⟩ := xnn_some e
  obtain ⟨m, met⟩ := hM h r9 h1 e
  refine ⟨m, fun H locs cells slots R C q2 q6 q7 q8 q9 => ⟨(va_rf (some a) :: As).toArray, ?_⟩⟩
  have met := met C.G
  rw [← C.l] at met
  subst hst
  exact vx_runIN (As := As) (b := a) (n := n) (xfix C rfl) met ⟨va_cnB n C.ws hw rfl rfl rfl (va_Nw.warmM C.W (C.tbl hl rfl)) (C.ws _ w3) hd ⟨by rw [q6, hμ]; exact hF, by rw [q7, hμ]; exact hL⟩, hi, C.ws _ w1⟩ ⟨xcall_pre, xcall_at C q2⟩ rfl hn hls rfl (lv_room hW) d ⟨q8, q9⟩
/-- methods with handlers -/
theorem xr_SX {hh : List (Nat × Nat × Nat × Nat)} (hM : xMetW Z y yc yn yr hh fr lo As pr) (hw : GoodIn lw_all (va_wsS δ.2.2.1 index y (wsW_ y yc yn yr hh))) (hd : y.cls ≠ "java/lang/invoke/MethodHandle" ∧ y.cls ≠ "java/lang/invoke/VarHandle" ∧ (parseMethodDescriptor y.desc).map (fun d => d.parameters.length) = some n) (hn : As.length = n) (hst : st0 = As.reverse ++ rest)
    (d : decode δ.1 pc = .ok (.invokestatic index, 3)) (hμ : μ.2.2 = (fr0, lo0)) (hF : fr + 1 ≤ fr0) (hL : 8 + (yn + 11) + lo ≤ lo0) (hW : (rest.map fun v => v.category).sum ≤ 8) (hls : ls.size = δ.2.1) : xRun Z κ μ δ pc ls st0 rest pr := by
  intro h r9 h1 e
  obtain ⟨m, met⟩ := hM h r9 h1 e
  refine ⟨m, fun H locs cells slots R C q2 q6 q7 q8 q9 => ⟨As.toArray, ?_⟩⟩
  have met := met C.G
  rw [← C.l] at met
  subst hst
  exact vx_runSX (As := As) (n := n) (xfix C rfl) met (vx_cwSW n C.ws hw rfl rfl rfl hd ⟨by rw [q6, hμ]; exact hF, by rw [q7, hμ]; exact hL⟩) ⟨xcall_pre, xcall_at C q2⟩ rfl hn hls rfl (lv_room hW) d ⟨q8, q9⟩
theorem xr_VX {hh : List (Nat × Nat × Nat × Nat)} {r : Option Nat} {c : Nat} {q : vw_C} (hM : xMetW Z y yc yn yr hh fr lo (va_rf r :: As) pr) (hc : xcl[c]? = some q) (hw : GoodIn lw_all (wsV δ.2.2.1 index q.1 y (wsW_ y yc yn yr hh))) (hd : y.cls = q.1 ∧ y.cls ≠ "java/lang/invoke/MethodHandle" ∧ y.cls ≠ "java/lang/invoke/VarHandle" ∧ (parseMethodDescriptor y.desc).map (fun d => d.parameters.length) = some n) (hn : As.length = n) (hst : st0 = As.reverse ++ va_rf r :: rest)
    (d : decode δ.1 pc = .ok (.invokevirtual index, 3)) (hμ : μ.2.2 = (fr0, lo0)) (hF : fr + 1 ≤ fr0) (hL : 8 + (yn + 11) + lo ≤ lo0) (hW : (rest.map fun v => v.category).sum ≤ 8) (hls : ls.size = δ.2.1) : xRun Z κ μ δ pc ls st0 rest (xrv r c pr) := by
  intro h r9 h1 e
  obtain ⟨a, fs, rfl, ha, e⟩ := xrv_some e
  obtain ⟨m, met⟩ := hM h r9 h1 e
  refine ⟨m, fun H locs cells slots R C q2 q6 q7 q8 q9 => ⟨(va_rf (some a) :: As).toArray, ?_⟩⟩
  have met := met C.G
  rw [← C.l] at met
  subst hst
  exact vx_runVX (As := As) (b := a) (n := n) (xfix C rfl) met (vx_cwVW n C.ws hw rfl rfl rfl hd ⟨by rw [q6, hμ]; exact hF, by rw [q7, hμ]; exact hL⟩) ⟨xcall_pre, xrecv C q2 ha hc, xcall_at C q2⟩ rfl hn hls rfl (lv_room hW) d ⟨q8, q9⟩
/-- an interface call's run -/
def xRun5 (Z : XZ) (κ : XK) (μ : XU) (δ : XT) (pc : Nat) (ls : Array Slot) (st0 rest : List Value) (pr : XM) : Prop := ∀ (h : XH) (r : XO) (h1 : XH), pr h = some (r, h1) → xMono h h1 ∧
  ∀ (H : Heap) (locs : List Loc) (cells slots : Nat) (R : Room), xC Z κ δ → xRel Z h H → R.frames = μ.2.2.1 → R.locals = μ.2.2.2 → cells + (h1.2.1 - h.2.1) ≤ R.cells → slots + (h1.2.2.1 - h.2.2.1) ≤ R.slots →
    ∃ a : Array Value, vx_Run5 κ.1 κ.2.1 κ.2.2.1 R κ.2.2.2.1 κ.2.2.2.2.1 κ.2.2.2.2.2.1 κ.2.2.2.2.2.2.1 κ.2.2.2.2.2.2.2.1 κ.2.2.2.2.2.2.2.2 H locs cells slots (h1.2.1 - h.2.1) (h1.2.2.1 - h.2.2.1) (F0 κ.2.2.2.2.1 pc ls st0) rest (xQc Z r h1 a) (xXC Z r h1) (xfree Z)
theorem xs_call5 {kk : Option Value → XM} {hd : String × Nat → XM} (hr : xRun5 Z κ μ δ pc ls st0 rest pr) (K : ∀ v : Option Value, xS Z κ μ δ (pc + 5) ls (v.toList ++ rest) (kk v)) (KX : ∀ (E : String) (q : Nat), xSX Z κ μ δ pc ls rest E q (hd (E, q))) : xS Z κ μ δ pc ls st0 (xcall pr kk hd) := by
  intro h o h1 e
  unfold xcall at e
  split at e
  · cases e
  · rename_i v h2 hx
    obtain ⟨m2, run⟩ := hr h _ h2 hx
    obtain ⟨m, b⟩ := K v h2 o h1 e
    refine ⟨xMono.tr m2 m, fun H locs R C q1 q2 q3 q4 q5 q6 q7 q8 q9 => ?_⟩
    have c1 : h.2.1 - μ.1 + (h2.2.1 - h.2.1) = h2.2.1 - μ.1 := by have := m2.1; omega
    have c2 : h.2.2.1 - μ.2.1 + (h2.2.2.1 - h.2.2.1) = h2.2.2.1 - μ.2.1 := by have := m2.2; omega
    obtain ⟨a, run⟩ := run H locs (h.2.1 - μ.1) (h.2.2.1 - μ.2.1) R C q2 q6 q7 (by rw [c1]; have := m.1; omega) (by rw [c2]; have := m.2; omega)
    intro T hT X
    rcases run T hT X with ⟨v9, st₀, t, T', L, hs0, X', hL, e1, e2, ⟨v8, hv8, ho8, hrel⟩, go⟩ | ⟨q, st₀, t, T', L, E, ce, hs0, X', hL, e1, e2, ⟨hx8, hrel⟩, hce, hcv, hcl, go⟩
    · cases hv8
      cases ho8
      rw [c1, c2] at X'
      obtain ⟨t2, a1, b1⟩ := b T'.heap (locs ++ L) R C q1 (by rw [e1]; exact hrel) (fun z hz => by
        rcases List.mem_append.mp hz with hz | hz
        · exact q3 z hz
        · exact hL z hz) (Nat.le_trans q4 m2.1) (Nat.le_trans q5 m2.2) q6 q7 q8 q9 T' rfl X'
      exact ⟨t2, go t2 a1, b1⟩
    · cases hx8
  · rename_i x h2 hx
    obtain ⟨m2, run⟩ := hr h _ h2 hx
    obtain ⟨m, -⟩ := KX x.1 x.2 h2 o h1 e
    refine ⟨xMono.tr m2 m, fun H locs R C q1 q2 q3 q4 q5 q6 q7 q8 q9 => ?_⟩
    have c1 : h.2.1 - μ.1 + (h2.2.1 - h.2.1) = h2.2.1 - μ.1 := by have := m2.1; omega
    have c2 : h.2.2.1 - μ.2.1 + (h2.2.2.1 - h.2.2.1) = h2.2.2.1 - μ.2.1 := by have := m2.2; omega
    obtain ⟨a, run⟩ := run H locs (h.2.1 - μ.1) (h.2.2.1 - μ.2.1) R C q2 q6 q7 (by rw [c1]; have := m.1; omega) (by rw [c2]; have := m.2; omega)
    intro T hT X
    rcases run T hT X with ⟨v9, st₀, t, T', L, hs0, X', hL, e1, e2, ⟨v8, hv8, ho8, hrel⟩, go⟩ | ⟨q, st₀, t, T', L, E, ce, hs0, X', hL, e1, e2, ⟨hx8, hrel⟩, hce, hcv, hcl, go⟩
    · cases hv8
    · cases hx8
      rw [c1, c2] at X'
      obtain ⟨-, b⟩ := KX E q h2 o h1 e
      obtain ⟨t2, a1, b1⟩ := b T'.heap (locs ++ L) R ce C q1 (by rw [e1]; exact hrel) (fun z hz => by
        rcases List.mem_append.mp hz with hz | hz
        · exact q3 z hz
        · exact hL z hz) (Nat.le_trans q4 m2.1) (Nat.le_trans q5 m2.2) q6 q7 q8 q9 (by rw [e1]; exact hce) hcv hcl T' rfl X'
      exact ⟨t2, go.trans a1, b1⟩
/-- what an interface call asks of the tables -/
def xFw (C : String) (x y : MethodName) : Prop := Cond.declares x ∈ lw_tbl ∧ Cond.interfaceMethod x.cls x.cls x.name x.desc ∈ lw_tbl ∧ Cond.publicMethod y ∈ lw_tbl ∧ Cond.unhidden C x.name x.desc ∈ lw_tbl ∧ Cond.castable C x.cls ∈ lw_tbl ∧ (x.cls ≠ "java/lang/invoke/MethodHandle" ∧ x.cls ≠ "java/lang/invoke/VarHandle")
theorem xFw.use {C : String} (hF : xFw C x y) (hC : xC Z κ δ) : va_Fw C x y κ.2.2.2.1 := by
  obtain ⟨f1, f2, f3, f4, f5, f6⟩ := hF
  exact va_Fw.moved f6 hC.W.alike (va_Fw.of (hC.G.2.1 _ f1) (hC.G.2.1 _ f2) (hC.G.2.1 _ f3) (hC.G.2.1 _ f4) (hC.G.2.1 _ f5))
theorem xr_F {r : Option Nat} {c : Nat} {q : vw_C} (hM : xMet Z y yc yn yr fr lo (va_rf r :: As) pr) (hc : xcl[c]? = some q) (hF9 : xFw q.1 x y) (hw : GoodIn lw_all (va_wsF δ.2.2.1 index q.1 x y (ws_ y yc yn yr))) (hd : x.cls ≠ "java/lang/invoke/MethodHandle" ∧ x.cls ≠ "java/lang/invoke/VarHandle" ∧ (parseMethodDescriptor x.desc).map (fun d => d.parameters.length) = some n) (hn : As.length = n) (hst : st0 = As.reverse ++ va_rf r :: rest)
    (d : decode δ.1 pc = .ok (.invokeinterface index count, 5)) (hμ : μ.2.2 = (fr0, lo0)) (hF : fr + 1 ≤ fr0) (hL : 8 + (yn + 11) + lo ≤ lo0) (hW : (rest.map fun v => v.category).sum ≤ 8) (hls : ls.size = δ.2.1) : xRun5 Z κ μ δ pc ls st0 rest (xrv r c pr) := by
  intro h r9 h1 e
  obtain ⟨a, fs, rfl, ha, e⟩ := xrv_some e
  obtain ⟨m, met⟩ := hM h r9 h1 e
  refine ⟨m, fun H locs cells slots R C q2 q6 q7 q8 q9 => ⟨(va_rf (some a) :: As).toArray, ?_⟩⟩
  have met := met C.G
  rw [← C.l] at met
  subst hst
  exact vx_runF (As := As) (b := a) (n := n) (C.at hc) (xfix C rfl) met (va_cwF n C.ws hw rfl rfl rfl (hF9.use C) hd ⟨by rw [q6, hμ]; exact hF, by rw [q7, hμ]; exact hL⟩) ⟨xcall_pre, xrecv C q2 ha hc, xcall_at C q2⟩ rfl hn hls rfl (lv_room hW) d ⟨q8, q9⟩
/-- entry of a method with handlers -/
theorem xMetW.of {hh : List (Nat × Nat × Nat × Nat)} {av : List Value} (hy : plainFor y = true) (hn : (lg_sl av).length ≤ yn)
    (body : ∀ (κ : XK) (μ : XU) (ls : Array Slot), μ.2.2 = (fr, lo) → lv_has ls yn (lv_args 0 av) → xS Z κ μ (yc, yn, y.cls, (y.name, y.desc), yr, hh) 0 ls [] pr) : xMetW Z y yc yn yr hh fr lo av pr := by
  intro h r h1 e
  have hls := lv_entry av (n := yn) hn
  refine ⟨(body Z.2.2.2.2.2 (0, 0, fr, lo) _ rfl hls h r h1 e).1, fun G => ?_⟩
  refine vx_ofWH (cc := yc) (maxL := yn) (ret := yr) (hh := hh) hy rfl ?_
  intro p e9 s m args below meth c s₁ B hml hv
  obtain ⟨rfl, hW, hR⟩ := hv
  have hts9 := atoms_spec (ws := wsW_ y yc yn yr hh) B.pre
  have hts : ∀ w ∈ lw_all, w.before _ s = true := fun w h => hts9 w (List.mem_cons_of_mem _ h)
  have hown : s.vm.findClass y.cls = some m.cls := findClass_of_methodNamed B.named
  have hname : meth.name = y.name := (name_of_methodNamed B.named B.method).1
  rw [lg_entry_eq]
  obtain ⟨-, b⟩ := body (p, Z.2.2.2.2.1, e9, s, m, av.toArray, below, meth, c) (h.2.1, h.2.2.1, fr, lo) _ rfl hls h r h1 e
  have hsz : s.heap.size = h.2.1 := hR.1
  have b := b s.heap [] { frames := fr, cells := h1.2.1 - h.2.1, slots := h1.2.2.1 - h.2.2.1, locals := lo } ⟨B.exec, B.bytes, hml, hown, hts, B.returns, B.notSynchronized, vx_table (x := y) B (hts9 _ List.mem_cons_self), ⟨hname, B.named⟩, hW, rfl, G⟩ ⟨hsz, hR.2.1, hR.2.2.1⟩ hR (fun z hz => nomatch hz) (Nat.le_refl _) (Nat.le_refl _) rfl rfl (Nat.le_refl _) (Nat.le_refl _)
  rw [show ∀ k : Nat, k - (h.2.1, h.2.2.1, fr, lo).1 = k - h.2.1 from fun _ => rfl] at b
  rw [show ∀ k : Nat, k - (h.2.1, h.2.2.1, fr, lo).2.1 = k - h.2.2.1 from fun _ => rfl] at b
  rw [Nat.sub_self, Nat.sub_self] at b
  exact b
/-- 'throw' of an object of a known class -/
def xat (r : Option Nat) (c : Nat) (E : String) (hd : String × Nat → XM) : XM := fun h => match r with
  | none => none
  | some a => match h.1 a with
    | some (.inr o) => if o.1 = c ∧ h.2.2.2.1 ≤ a then hd (E, a) h else none
    | _ => none
theorem xs_athrow {r : Option Nat} {c : Nat} {q : vw_C} {hd : String × Nat → XM} (hc : xcl[c]? = some q) (d : decode δ.1 pc = .ok (.athrow, 1)) (K : ∀ a : Nat, xSX Z κ μ δ pc ls st q.1 a (hd (q.1, a))) : xS Z κ μ δ pc ls (va_rf r :: st) (xat r c q.1 hd) := by
  intro h o h1 e
  unfold xat at e
  split at e
  · cases e
  · rename_i a
    split at e
    · rename_i w hw
      split at e
      · rename_i hc2
        obtain ⟨c2, fs⟩ := w
        dsimp only at hc2 e
        obtain ⟨hc2, hB⟩ := hc2
        subst hc2
        obtain ⟨m, b⟩ := K a h o h1 e
        refine ⟨m, fun H locs R C q1 q2 q3 q4 q5 q6 q7 q8 q9 => ?_⟩
        obtain ⟨q', hq', cell, g1, g2, g3, -⟩ := ((q2.2.2.2.2.2 a _ hw).2 (by rw [← q2.2.2.2.1]; exact hB)).obj hc
        cases hq'.symm.trans hc
        exact vx_athrow C.1 C.2.1 d (b H locs R cell C q1 q2 q3 q4 q5 q6 q7 q8 q9 g1 g3 (by rw [g2]; exact (C.K.1 c2 q hc).2.1))
      · cases e
    · cases e
/-- a handler that catches: behind rows that name other classes -/
theorem xs_catch {E name : String} {q : Nat} (pre : List (Nat × Nat × Nat × Nat)) (x : Nat × Nat × Nat × Nat) (suf : List (Nat × Nat × Nat × Nat)) (hs : δ.2.2.2.2.2 = pre ++ x :: suf)
    (hpass : ∀ z ∈ tableOf pre, covers z pc = false ∨ (z.catchType ≠ 0 ∧ ∃ nm : String, Cond.classLink δ.2.2.1 z.catchType nm ∈ lw_all ∧ ∀ (A : Array Value) (S : State), (Jvm.Cond.and given_1 narrow_1).before A S = true → va_Nc E nm S)) {xe : ExceptionTableEntry} (hxe : tableOf [x] = [xe]) (hx : covers xe pc = true) (h0 : xe.catchType ≠ 0) (hl : Cond.classLink δ.2.2.1 xe.catchType name ∈ lw_all) (hcast : Cond.castable E name ∈ lw_tbl) (K : xS Z κ μ δ xe.handlerPc ls [va_rf (some q)] pr) : xSX Z κ μ δ pc ls st E q pr := by
  intro h o h1 e
  obtain ⟨m, b⟩ := K h o h1 e
  refine ⟨m, fun H locs R ce C q1 q2 q3 q4 q5 q6 q7 q8 q9 hce hv hcl => ?_⟩
  have happ : tableOf (pre ++ x :: suf) = tableOf pre ++ xe :: tableOf suf := by
    have : pre ++ x :: suf = pre ++ ([x] ++ suf) := rfl
    rw [this]
    unfold tableOf at hxe ⊢
    rw [List.map_append, List.map_append, hxe]
    rfl
  refine vx_catch C.own (tableOf pre) xe (tableOf suf) (by rw [C.2.2.2.2.2.2.2.1, hs, happ]) (fun z hz => ?_) hx h0 (C.ws _ hl) (va_Nw.use rfl (va_Nw.warmC C.W (C.tbl hcast rfl))) hce hv hcl (b H locs R C q1 q2 q3 q4 q5 q6 q7 q8 q9)
  rcases hpass z hz with g | ⟨g1, nm, g2, g3⟩
  · exact Or.inl g
  · exact Or.inr ⟨g1, nm, C.ws _ g2, va_Nc.moved C.W.alike (g3 _ _ C.G.2.2.2.1)⟩
end XMR
