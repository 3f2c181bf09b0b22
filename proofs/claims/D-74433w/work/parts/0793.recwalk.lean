/-! the made method of the record, walked -/
theorem xrd_0 : decode xrB 0 = .ok (.aload_n 0, 1) := by decide +kernel
theorem xrd_1 : decode xrB 1 = .ok (.aload_n 1, 1) := by decide +kernel
theorem xrd_2 : decode xrB 2 = .ok (.if_acmp .ne 5, 3) := by decide +kernel
theorem xrd_5 : decode xrB 5 = .ok (.iconst 1, 1) := by decide +kernel
theorem xrd_6 : decode xrB 6 = .ok (.ireturn, 1) := by decide +kernel
theorem xrd_7 : decode xrB 7 = .ok (.aload_n 1, 1) := by decide +kernel
theorem xrd_8 : decode xrB 8 = .ok (.instanceof 8, 3) := by decide +kernel
theorem xrd_11 : decode xrB 11 = .ok (.ifCond .ne 5, 3) := by decide +kernel
theorem xrd_14 : decode xrB 14 = .ok (.iconst 0, 1) := by decide +kernel
theorem xrd_15 : decode xrB 15 = .ok (.ireturn, 1) := by decide +kernel
theorem xrd_16 : decode xrB 16 = .ok (.aload_n 1, 1) := by decide +kernel
theorem xrd_17 : decode xrB 17 = .ok (.checkcast 8, 3) := by decide +kernel
theorem xrd_20 : decode xrB 20 = .ok (.astore_n 2, 1) := by decide +kernel
theorem xrd_21 : decode xrB 21 = .ok (.aload_n 0, 1) := by decide +kernel
theorem xrd_22 : decode xrB 22 = .ok (.getfield 12, 3) := by decide +kernel
theorem xrd_25 : decode xrB 25 = .ok (.aload_n 2, 1) := by decide +kernel
theorem xrd_26 : decode xrB 26 = .ok (.getfield 12, 3) := by decide +kernel
theorem xrd_29 : decode xrB 29 = .ok (.if_icmp .eq 5, 3) := by decide +kernel
theorem xrd_32 : decode xrB 32 = .ok (.iconst 0, 1) := by decide +kernel
theorem xrd_33 : decode xrB 33 = .ok (.ireturn, 1) := by decide +kernel
theorem xrd_34 : decode xrB 34 = .ok (.aload_n 0, 1) := by decide +kernel
theorem xrd_35 : decode xrB 35 = .ok (.getfield 15, 3) := by decide +kernel
theorem xrd_38 : decode xrB 38 = .ok (.aload_n 2, 1) := by decide +kernel
theorem xrd_39 : decode xrB 39 = .ok (.getfield 15, 3) := by decide +kernel
theorem xrd_42 : decode xrB 42 = .ok (.if_icmp .eq 5, 3) := by decide +kernel
theorem xrd_45 : decode xrB 45 = .ok (.iconst 0, 1) := by decide +kernel
theorem xrd_46 : decode xrB 46 = .ok (.ireturn, 1) := by decide +kernel
theorem xrd_47 : decode xrB 47 = .ok (.aload_n 0, 1) := by decide +kernel
theorem xrd_48 : decode xrB 48 = .ok (.getfield 19, 3) := by decide +kernel
theorem xrd_51 : decode xrB 51 = .ok (.aload_n 2, 1) := by decide +kernel
theorem xrd_52 : decode xrB 52 = .ok (.getfield 19, 3) := by decide +kernel
theorem xrd_55 : decode xrB 55 = .ok (.invokestatic 24, 3) := by decide +kernel
theorem xrd_58 : decode xrB 58 = .ok (.ifCond .ne 5, 3) := by decide +kernel
theorem xrd_61 : decode xrB 61 = .ok (.iconst 0, 1) := by decide +kernel
theorem xrd_62 : decode xrB 62 = .ok (.ireturn, 1) := by decide +kernel
theorem xrd_63 : decode xrB 63 = .ok (.iconst 1, 1) := by decide +kernel
theorem xrd_64 : decode xrB 64 = .ok (.ireturn, 1) := by decide +kernel
theorem xass_self (vm : Vm) (c : ClassId) : vm.assignable c c = true := by
  show vm.assignableAux (255 + 1) c c = true
  rw [Vm.assignableAux]
  rw [beq_self_eq_true, Bool.true_or]
section XRW
variable {p : Program} {l : Launch} {e : Env} {R : Room} {s : State} {m : MethodId} {args : Array Value} {below : List Frame} {meth : Method} {c : Code} {H : Heap} {locs : List Loc} {cells slots : Nat} {Q : State → Prop} {cc : ByteArray} {pc : Nat} {ls : Array Slot} {rest : List Value}
theorem xW_getR (hexec : p.tables.exec = Jvm.exec) (hb : c.code = cc) {idx cF a : Nat} {field : Field} {cell : Cell} {v : Value} (hr : ∀ vm', s.WarmedH vm' → vm'.fieldReady m.cls idx cF field) (hst : field.isStatic = false) (hcell : H[a]? = some cell) (hknown : cell.vm ≠ .unknown) (hv : cell.slots[field.slot]? = some v) (d : decode cc pc = .ok (.getfield idx, 3))
    (k : W p l e R s m args below meth c H locs cells slots Q (F0 m (pc + 3) ls (v :: rest))) : W p l e R s m args below meth c H locs cells slots Q (F0 m pc ls (.ref a :: rest)) := by
  intro T hT X
  obtain ⟨t, s1, s2⟩ := k T hT X
  refine ⟨t, ?_, s2⟩
  jvm_step X.here [hexec, hb, d, getfield.wp_ready (e := e) (s := T) (c := cF) (field := field) (a := a) (rest := rest) (cell := cell) (v := v) (f := F0 m pc ls (.ref a :: rest)) X.here.top (hr _ X.warmed) hst rfl (by rw [hT]; exact hcell) hknown hv]
  exact s1
theorem xW_instN (hexec : p.tables.exec = Jvm.exec) (hb : c.code = cc) {ci cR : Nat} (hr : ∀ vm', s.WarmedH vm' → vm'.classReady m.cls ci cR) (d : decode cc pc = .ok (.instanceof ci, 3))
    (k : W p l e R s m args below meth c H locs cells slots Q (F0 m (pc + 3) ls (.int 0 :: rest))) : W p l e R s m args below meth c H locs cells slots Q (F0 m pc ls (.null :: rest)) := by
  intro T hT X
  obtain ⟨t, s1, s2⟩ := k T hT X
  refine ⟨t, ?_, s2⟩
  jvm_step X.here [hexec, hb, d, instanceof.wp_ready (e := e) (s := T) (c := cR) (x := .null) (rest := rest) (f := F0 m pc ls (.null :: rest)) X.here.top (hr _ X.warmed) rfl]
  exact s1
theorem xW_instR (hexec : p.tables.exec = Jvm.exec) (hb : c.code = cc) {ci cR b : Nat} {cell : Cell} (hr : ∀ vm', s.WarmedH vm' → vm'.classReady m.cls ci cR) (hcell : H[b]? = some cell) (hst : cell.vm.isStatics = false) (hc : cell.cls = cR) (hk : ∃ k, s.vm.classes[cR]? = some k) (d : decode cc pc = .ok (.instanceof ci, 3))
    (k : W p l e R s m args below meth c H locs cells slots Q (F0 m (pc + 3) ls (.int 1 :: rest))) : W p l e R s m args below meth c H locs cells slots Q (F0 m pc ls (.ref b :: rest)) := by
  intro T hT X
  obtain ⟨t, s1, s2⟩ := k T hT X
  obtain ⟨k0, hk0⟩ := hk
  obtain ⟨k1, hk1, -⟩ := X.warmed.alike.2.2 _ _ hk0
  refine ⟨t, ?_, s2⟩
  jvm_step X.here [hexec, hb, d, instanceof.wp_ready (e := e) (s := T) (c := cR) (x := .ref b) (rest := rest) (f := F0 m pc ls (.ref b :: rest)) X.here.top (hr _ X.warmed) rfl]
  refine ⟨cell, by rw [hT]; exact hcell, (fun k h => by rw [h] at hst; exact Bool.noConfusion hst), ⟨k1, by rw [hc]; exact hk1⟩, ⟨k1, hk1⟩, ?_⟩
  rw [hc, if_pos (xass_self _ _)]
  exact s1
theorem xW_castR (hexec : p.tables.exec = Jvm.exec) (hb : c.code = cc) {ci cR b : Nat} {cell : Cell} (hr : ∀ vm', s.WarmedH vm' → vm'.classReady m.cls ci cR) (hcell : H[b]? = some cell) (hst : cell.vm.isStatics = false) (hc : cell.cls = cR) (hk : ∃ k, s.vm.classes[cR]? = some k) (d : decode cc pc = .ok (.checkcast ci, 3))
    (k : W p l e R s m args below meth c H locs cells slots Q (F0 m (pc + 3) ls (.ref b :: rest))) : W p l e R s m args below meth c H locs cells slots Q (F0 m pc ls (.ref b :: rest)) := by
  intro T hT X
  obtain ⟨t, s1, s2⟩ := k T hT X
  obtain ⟨k0, hk0⟩ := hk
  obtain ⟨k1, hk1, -⟩ := X.warmed.alike.2.2 _ _ hk0
  refine ⟨t, ?_, s2⟩
  jvm_step X.here [hexec, hb, d, checkcast.wp_ready (e := e) (s := T) (c := cR) (x := .ref b) (rest := rest) (f := F0 m pc ls (.ref b :: rest)) X.here.top (hr _ X.warmed) rfl]
  refine ⟨cell, by rw [hT]; exact hcell, (fun k h => by rw [h] at hst; exact Bool.noConfusion hst), k1, by rw [hc]; exact hk1, k1, hk1, ?_⟩
  rw [hc, if_pos (xass_self _ _)]
  exact s1
end XRW
section XRC
variable {Z : XZ} {p : Program} {l : Launch} {e : Env} {R : Room} {s : State} {m : MethodId} {args : Array Value} {below : List Frame} {meth : Method} {c : Code} {H : Heap} {locs : List Loc} {cells slots : Nat} {Q : State → Prop} {cc : ByteArray} {pc : Nat} {ls : Array Slot} {rest : List Value}
/-- a static call where the made class' pool is resolved -/
theorem xW_callS (hexec : p.tables.exec = Jvm.exec) (hb : c.code = cc) (hls : ls.size = c.maxLocals) {idx : Nat} {y : MethodName} {yc : ByteArray} {yn fr lo : Nat} {yr : Option FieldType} {As : List Value} {z : Int32} {h h1 : XH} {t : MethodId} {metht : Method}
    (hwd : ∀ w ∈ ws_ y yc yn yr, ∀ (a' : Array Value) (U : State), s.WarmedH U.vm → w.before a' U = true) (hini : ∀ (a' : Array Value) (U : State), s.WarmedH U.vm → (Cond.initialized y.cls).before a' U = true)
    (hM : vx_Met l y (ws_ y yc yn yr) { frames := fr, cells := h1.2.1 - h.2.1, slots := h1.2.2.1 - h.2.2.1, locals := lo } (xPc Z As h) (xQc Z (.ok (some (.int z))) h1) (xXC Z (.ok (some (.int z))) h1) (h1.2.1 - h.2.1) (h1.2.2.1 - h.2.2.1) (xfree Z))
    (href : ∀ U : State, s.WarmedH U.vm → plainRef U e m.cls idx) (hready : ∀ U : State, s.WarmedH U.vm → U.vm.methodReady m.cls idx t ∧ ∃ k', U.vm.classes[t.cls]? = some k' ∧ k'.init = .initialized ∧ signaturePolymorphic k' metht = false)
    (hmt : s.vm.method? t = some metht) (hstatic : metht.isStatic = true) (hpar : As.length = metht.sig.parameters.length)
    (hn : ∀ U : State, s.WarmedH U.vm → U.methodNamed? y = some t) (hW0 : ∀ vm', s.WarmedH vm' → Z.2.1.WarmedH vm') (hrel : xRel Z h H)
    (hF : fr + 1 ≤ R.frames) (hL : 8 + (yn + 11) + lo ≤ R.locals) (hc : cells + (h1.2.1 - h.2.1) ≤ R.cells) (hs : slots + (h1.2.2.1 - h.2.2.1) ≤ R.slots) (hW : (rest.map fun v => v.category).sum ≤ 8) (d : decode cc pc = .ok (.invokestatic idx, 3))
    (K : ∀ (H1 : Heap) (L : List Loc), xRel Z h1 H1 → (∀ q ∈ L, xfree Z q.base) → W p l e R s m args below meth c H1 (locs ++ L) (cells + (h1.2.1 - h.2.1)) (slots + (h1.2.2.1 - h.2.2.1)) Q (F0 m (pc + 3) ls (.int z :: rest))) : W p l e R s m args below meth c H locs cells slots Q (F0 m pc ls (As.reverse ++ rest)) := by
  intro T hT X
  have hcode9 : Cond.code y yc yn yr ∈ ws_ y yc yn yr := List.mem_cons_self
  have hB9 := vx_back (l := l) (R := R) (p := p) (e := e) (below := below) (s := s) (sargs := args) (len := 3) (W9 := 8) hM xcall_pre rfl rfl hF hL hwd hcode9 hini
  have hpre : PreOf R (h1.2.1 - h.2.1) (h1.2.2.1 - h.2.2.1) (xPc Z As h) ⟨T, locs, cells, slots⟩ As.toArray := ⟨hc, hs, rfl, hW0 _ X.warmed, by show xRel Z h T.heap; rw [hT]; exact hrel⟩
  obtain ⟨hr9, k9, hk9, hi9, hp9⟩ := hready T X.warmed
  have hm9 : T.vm.method? t = some metht := by rw [X.warmed.alike.method?]; exact hmt
  have step : ∀ target, (∀ acts, Steps p.tables e below (doInvoke e (T.setTop (F0 m pc ls rest)) acts t As.toArray).1 target) → Steps p.tables e below (T.setTop (F0 m pc ls (As.reverse ++ rest))) target := by
    intro target hgo
    jvm_step X.here [hexec, hb, d, invokestatic.wp_ready (e := e) (s := T) (m := t) (k := k9) (meth := metht) (args := As) (rest := rest) (f := F0 m pc ls (As.reverse ++ rest)) X.here.top (href T X.warmed) hr9 hk9 hm9 hp9 hstatic hi9 hpar rfl]
    intro acts
    exact hgo acts
  rcases hB9 m meth c ⟨T, locs, cells, slots⟩ (F0 m pc ls rest) (.invokestatic idx) t As.toArray X rfl hls (by rw [hb]; exact d) (lv_room hW) (hn T X.warmed) hpre with ⟨v, B, YB, hpost, hsteps⟩ | ⟨q, B, YB, hpost, hsteps⟩
  · obtain ⟨g', mk', t9, L, e1, e2, ⟨v9, hv9, ho9, hrel9⟩, hloc9, hL9, hc9, hs9⟩ := hpost
    cases hv9
    cases ho9
    obtain ⟨UB, LB, cB, sB⟩ := B
    dsimp only [Pt.U, Pt.locs, Pt.cells, Pt.slots] at YB e1 e2 hloc9 hc9 hs9 hsteps
    subst hloc9
    subst hc9
    subst hs9
    obtain ⟨tt, a1, b1⟩ := K UB.heap L (by rw [e1]; exact hrel9) hL9 UB rfl YB
    exact ⟨tt, step _ fun acts => by rw [doInvoke_state]; exact hsteps.trans a1, b1⟩
  · obtain ⟨g', mk', t9, L, E, ce, -, -, ⟨hx, -⟩, -⟩ := hpost
    cases hx
end XRC
