/-! the record's equals as a program -/
def xvotF (l : List Value) : Option (Option Nat × Int32 × Int32) := match l with
  | [n, .int s, .int t] => (xasR n).map fun u => (u, s, t)
  | _ => none
def xvot (h : XH) (r : Option Nat) : Option (Option Nat × Int32 × Int32) := match xobjOf h r with
  | some o => if o.1 = 6 then xvotF o.2 else none
  | none => none
theorem xvotF_some {l : List Value} {q : Option Nat × Int32 × Int32} (e : xvotF l = some q) : l = [va_rf q.1, .int q.2.1, .int q.2.2] := by
  match l, e with
  | [n, .int s, .int t], e =>
    cases hn : xasR n with
    | none => simp [xvotF, hn] at e
    | some u =>
      simp [xvotF, hn] at e
      subst e
      rw [xasR_some hn]
theorem xvot_some {h : XH} {r : Option Nat} {q : Option Nat × Int32 × Int32} (e : xvot h r = some q) : ∃ a, r = some a ∧ h.1 a = some (.inr (6, [va_rf q.1, .int q.2.1, .int q.2.2])) := by
  unfold xvot at e
  cases ho : xobjOf h r with
  | none => rw [ho] at e; cases e
  | some o =>
    rw [ho] at e
    dsimp only at e
    obtain ⟨a, rfl, ha⟩ := xobjOf_some ho
    obtain ⟨c, l⟩ := o
    by_cases hc : c = 6
    · rw [if_pos hc] at e
      subst hc
      refine ⟨a, rfl, ?_⟩
      have e2 : l = _ := xvotF_some e
      rw [ha, e2]
    · rw [if_neg hc] at e
      cases e
def xrecV (pe : Option Nat → Option Nat → XM) (r x : Option Nat) : XM := fun h =>
  if r = x then some (.ok (some (.int 1)), h) else
  match xvot h r with
  | none => none
  | some q => match x with
    | none => some (.ok (some (.int 0)), h)
    | some b => match xvot h (some b) with
      | none => none
      | some w => if q.2.2 = w.2.2 then (if q.2.1 = w.2.1 then xok 0 (pe q.1 w.1) h else some (.ok (some (.int 0)), h)) else some (.ok (some (.int 0)), h)
theorem xrecV_some {pe : Option Nat → Option Nat → XM} {r x : Option Nat} {h h1 : XH} {o : XO} (e : xrecV pe r x h = some (o, h1)) :
    (r = x ∧ o = .ok (some (.int 1)) ∧ h1 = h) ∨ ∃ (a : Nat) (q : Option Nat × Int32 × Int32), r = some a ∧ h.1 a = some (.inr (6, [va_rf q.1, .int q.2.1, .int q.2.2])) ∧
      ((x = none ∧ o = .ok (some (.int 0)) ∧ h1 = h) ∨ ∃ (b : Nat) (w : Option Nat × Int32 × Int32), a ≠ b ∧ x = some b ∧ h.1 b = some (.inr (6, [va_rf w.1, .int w.2.1, .int w.2.2])) ∧
        ((¬ q.2.2 = w.2.2 ∧ o = .ok (some (.int 0)) ∧ h1 = h) ∨ (q.2.2 = w.2.2 ∧ ¬ q.2.1 = w.2.1 ∧ o = .ok (some (.int 0)) ∧ h1 = h) ∨ (q.2.2 = w.2.2 ∧ q.2.1 = w.2.1 ∧ xok 0 (pe q.1 w.1) h = some (o, h1)))) := by
  unfold xrecV at e
  by_cases hrx : r = x
  · rw [if_pos hrx] at e
    cases e
    exact Or.inl ⟨hrx, rfl, rfl⟩
  · rw [if_neg hrx] at e
    refine Or.inr ?_
    cases hq : xvot h r with
    | none => rw [hq] at e; cases e
    | some q =>
      rw [hq] at e
      dsimp only at e
      obtain ⟨a, rfl, ha⟩ := xvot_some hq
      refine ⟨a, q, rfl, ha, ?_⟩
      cases x with
      | none =>
        cases e
        exact Or.inl ⟨rfl, rfl, rfl⟩
      | some b =>
        refine Or.inr ?_
        dsimp only at e
        cases hw : xvot h (some b) with
        | none => rw [hw] at e; cases e
        | some w =>
          rw [hw] at e
          dsimp only at e
          obtain ⟨b', hb', hb⟩ := xvot_some hw
          cases hb'
          refine ⟨b, w, fun hab => hrx (by rw [hab]), rfl, hb, ?_⟩
          by_cases h1 : q.2.2 = w.2.2
          · rw [if_pos h1] at e
            by_cases h2 : q.2.1 = w.2.1
            · rw [if_pos h2] at e
              exact Or.inr (Or.inr ⟨h1, h2, e⟩)
            · rw [if_neg h2] at e
              cases e
              exact Or.inr (Or.inl ⟨h1, h2, rfl, rfl⟩)
          · rw [if_neg h1] at e
            cases e
            exact Or.inl ⟨h1, rfl, rfl⟩
section XRB
variable {Z : XZ} {p : Program} {l : Launch} {e : Env} {R : Room} {s : State} {m : MethodId} {args : Array Value} {below : List Frame} {meth : Method} {c : Code} {H : Heap} {h h1 : XH} {o : XO} {ls : Array Slot}
theorem xrec_end {z : Int32} (hexec : p.tables.exec = Jvm.exec) (hb : c.code = xrB) (hret : meth.sig.returnType = some .boolean) (hlk : meth.locks = false) (hz : z = 0 ∨ z = 1) {H1 : Heap} {locs : List Loc} {cells slots mc ms pc : Nat} (ho : o = .ok (some (.int z))) (hr : xRel Z h1 H1) (hf : ∀ q ∈ locs, xfree Z q.base) (hc : cells = mc) (hs : slots = ms) (d : decode xrB pc = .ok (.ireturn, 1)) :
    W p l e R s m args below meth c H1 locs cells slots (vx_MQ below (xQc Z o h1) (xXC Z o h1) args s mc ms (xfree Z)) (F0 m pc ls [.int z]) := by
  subst hc
  subst hs
  subst ho
  exact vx_ret (W.zret hexec hb hret (by rcases hz with rfl | rfl <;> rfl) (fun t ht hW => ⟨some (.int z), rfl, rfl, by rw [ht]; exact hr⟩) hf d hlk)
theorem xrec_body (hexec : p.tables.exec = Jvm.exec) (hb : c.code = xrB) (hret : meth.sig.returnType = some .boolean) (hlk : meth.locks = false) {r x : Option Nat} (hl : lv_has ls 203 [(0, va_rf r), (1, va_rf x)])
    {cV d9 : ClassId} (hcr : ∀ vm', s.WarmedH vm' → vm'.classReady m.cls 8 cV) (hcv : ∃ k, s.vm.classes[cV]? = some k) (hcls : Z.1.1.1 6 = cV)
    {f0 f1 f2 : Field} (hf2 : (∀ vm', s.WarmedH vm' → vm'.fieldReady m.cls 12 d9 f2) ∧ f2.isStatic = false ∧ f2.slot = Z.1.1.2 6 2) (hf1 : (∀ vm', s.WarmedH vm' → vm'.fieldReady m.cls 15 d9 f1) ∧ f1.isStatic = false ∧ f1.slot = Z.1.1.2 6 1) (hf0 : (∀ vm', s.WarmedH vm' → vm'.fieldReady m.cls 19 d9 f0) ∧ f0.isStatic = false ∧ f0.slot = Z.1.1.2 6 0)
    (hrel : xRel Z h H) {pe : Option Nat → Option Nat → XM} (ee : xrecV pe r x h = some (o, h1))
    (hcall : ∀ (u v : Option Nat) (z : Int32) (ls : Array Slot), ls.size = 203 → pe u v h = some (.ok (some (.int z)), h1) → (∀ (H1 : Heap) (L : List Loc), xRel Z h1 H1 → (∀ q ∈ L, xfree Z q.base) → W p l e R s m args below meth c H1 ([] ++ L) (0 + (h1.2.1 - h.2.1)) (0 + (h1.2.2.1 - h.2.2.1)) (vx_MQ below (xQc Z o h1) (xXC Z o h1) args s (h1.2.1 - h.2.1) (h1.2.2.1 - h.2.2.1) (xfree Z)) (F0 m 58 ls [.int z])) →
      W p l e R s m args below meth c H [] 0 0 (vx_MQ below (xQc Z o h1) (xXC Z o h1) args s (h1.2.1 - h.2.1) (h1.2.2.1 - h.2.2.1) (xfree Z)) (F0 m 55 ls [va_rf v, va_rf u])) :
    W p l e R s m args below meth c H [] 0 0 (vx_MQ below (xQc Z o h1) (xXC Z o h1) args s (h1.2.1 - h.2.1) (h1.2.2.1 - h.2.2.1) (xfree Z)) (F0 m 0 ls []) := by
  have nof : ∀ q ∈ ([] : List Loc), xfree Z q.base := fun q hq => nomatch hq
  have z0 : ∀ (z : Int32) (ls : Array Slot) (pc : Nat), z = 0 ∨ z = 1 → o = .ok (some (.int z)) → h1 = h → decode xrB pc = .ok (.ireturn, 1) → W p l e R s m args below meth c H [] 0 0 (vx_MQ below (xQc Z o h1) (xXC Z o h1) args s (h1.2.1 - h.2.1) (h1.2.2.1 - h.2.2.1) (xfree Z)) (F0 m pc ls [.int z]) := by
    intro z ls pc hz ho hh d
    subst hh
    exact xrec_end hexec hb hret hlk hz ho hrel nof (Nat.sub_self _).symm (Nat.sub_self _).symm d
  rcases xrecV_some ee with ⟨rfl, ho, hh⟩ | ⟨a, q, rfl, ha, hx⟩
  · -- the same
    have k6 := z0 1 ls 6 (Or.inr rfl) ho hh xrd_6
    have k2 : W p l e R s m args below meth c H [] 0 0 (vx_MQ below (xQc Z o h1) (xXC Z o h1) args s (h1.2.1 - h.2.1) (h1.2.2.1 - h.2.2.1) (xfree Z)) (F0 m 2 ls [va_rf r, va_rf r]) :=
      lv_acmp_ne hexec hb xrd_2 (by decide : ((2 : Nat) : Int) + 5 = ((7 : Nat) : Int)) (fun hne => absurd rfl hne) (fun _ => lv_iconst hexec hb xrd_5 (by decide) k6)
    cases r with
    | none => exact lv_aload_nN hexec hb xrd_0 rfl (lv_at hl 0 rfl) (lv_aload_nN hexec hb xrd_1 rfl (lv_at hl 1 rfl) k2)
    | some a => exact lv_aload_n hexec hb xrd_0 rfl (lv_at hl 0 rfl) (lv_aload_n hexec hb xrd_1 rfl (lv_at hl 1 rfl) k2)
  · rcases hx with ⟨rfl, ho, hh⟩ | ⟨b, w, hab, rfl, hbb, hx⟩
    · -- null
      have k15 := z0 0 ls 15 (Or.inl rfl) ho hh xrd_15
      refine lv_aload_n hexec hb xrd_0 rfl (lv_at hl 0 rfl) (lv_aload_nN hexec hb xrd_1 rfl (lv_at hl 1 rfl) ?_)
      refine lv_acmp_ne (rx := some a) (ry := none) hexec hb xrd_2 (by decide : ((2 : Nat) : Int) + 5 = ((7 : Nat) : Int)) (fun _ => ?_) (fun h9 => by cases h9)
      refine lv_aload_nN hexec hb xrd_7 rfl (lv_at hl 1 rfl) (xW_instN hexec hb hcr xrd_8 ?_)
      exact lv_if_ne hexec hb xrd_11 (by decide : ((11 : Nat) : Int) + 5 = ((16 : Nat) : Int)) (fun h9 => absurd rfl h9) (fun _ => lv_iconst hexec hb xrd_14 (by decide) k15)
    · -- another one
      obtain ⟨ca, qa1, qa2, qa3, qa4, qa5⟩ := (hrel.2.2.2.2.2 a _ ha).1.obj (c := 6) (q := (RX7, TX7, 3)) rfl
      obtain ⟨cb, qb1, qb2, qb3, qb4, qb5⟩ := (hrel.2.2.2.2.2 b _ hbb).1.obj (c := 6) (q := (RX7, TX7, 3)) rfl
      have sl : ∀ (cell : Cell) (q : Option Nat × Int32 × Int32), (∀ k : Nat, k < 3 → cell.slots[Z.1.1.2 6 k]? = some (vp_V [va_rf q.1, .int q.2.1, .int q.2.2] k)) → cell.slots[f0.slot]? = some (va_rf q.1) ∧ cell.slots[f1.slot]? = some (.int q.2.1) ∧ cell.slots[f2.slot]? = some (.int q.2.2) := by
        intro cell q hq
        rw [hf0.2.2, hf1.2.2, hf2.2.2]
        exact ⟨hq 0 (by decide), hq 1 (by decide), hq 2 (by decide)⟩
      obtain ⟨sa0, sa1, sa2⟩ := sl ca q qa5
      obtain ⟨sb0, sb1, sb2⟩ := sl cb w qb5
      refine lv_aload_n hexec hb xrd_0 rfl (lv_at hl 0 rfl) (lv_aload_n hexec hb xrd_1 rfl (lv_at hl 1 rfl) ?_)
      refine lv_acmp_ne (rx := some a) (ry := some b) hexec hb xrd_2 (by decide : ((2 : Nat) : Int) + 5 = ((7 : Nat) : Int)) (fun _ => ?_) (fun h9 => absurd (Option.some.inj h9) hab)
      refine lv_aload_n hexec hb xrd_7 rfl (lv_at hl 1 rfl) (xW_instR hexec hb hcr qb1 qb3 (qb2.trans hcls) hcv xrd_8 ?_)
      refine lv_if_ne hexec hb xrd_11 (by decide : ((11 : Nat) : Int) + 5 = ((16 : Nat) : Int)) (fun _ => ?_) (fun h9 => by cases h9)
      refine lv_aload_n hexec hb xrd_16 rfl (lv_at hl 1 rfl) (xW_castR hexec hb hcr qb1 qb3 (qb2.trans hcls) hcv xrd_17 ?_)
      refine lv_astore_n hexec hb xrd_20 rfl hl (by decide) (lv' := [(2, va_rf (some b)), (0, va_rf (some a)), (1, va_rf (some b))]) rfl (fun ls' hl' => ?_)
      refine lv_aload_n hexec hb xrd_21 rfl (lv_at hl' 1 rfl) (xW_getR hexec hb hf2.1 hf2.2.1 qa1 qa4 sa2 xrd_22 ?_)
      refine lv_aload_n hexec hb xrd_25 rfl (lv_at hl' 0 rfl) (xW_getR hexec hb hf2.1 hf2.2.1 qb1 qb4 sb2 xrd_26 ?_)
      rcases hx with ⟨hn, ho, hh⟩ | hx
      · exact lv_icmp_eq hexec hb xrd_29 (by decide : ((29 : Nat) : Int) + 5 = ((34 : Nat) : Int)) (fun h9 => absurd h9 hn) (fun _ => lv_iconst hexec hb xrd_32 (by decide) (z0 0 ls' 33 (Or.inl rfl) ho hh xrd_33))
      refine lv_icmp_eq hexec hb xrd_29 (by decide : ((29 : Nat) : Int) + 5 = ((34 : Nat) : Int)) (fun _ => ?_) (fun h9 => absurd (by rcases hx with hx | hx <;> exact hx.1) h9)
      refine lv_aload_n hexec hb xrd_34 rfl (lv_at hl' 1 rfl) (xW_getR hexec hb hf1.1 hf1.2.1 qa1 qa4 sa1 xrd_35 ?_)
      refine lv_aload_n hexec hb xrd_38 rfl (lv_at hl' 0 rfl) (xW_getR hexec hb hf1.1 hf1.2.1 qb1 qb4 sb1 xrd_39 ?_)
      rcases hx with ⟨-, hn, ho, hh⟩ | ⟨-, he2, hx⟩
      · exact lv_icmp_eq hexec hb xrd_42 (by decide : ((42 : Nat) : Int) + 5 = ((47 : Nat) : Int)) (fun h9 => absurd h9 hn) (fun _ => lv_iconst hexec hb xrd_45 (by decide) (z0 0 ls' 46 (Or.inl rfl) ho hh xrd_46))
      refine lv_icmp_eq hexec hb xrd_42 (by decide : ((42 : Nat) : Int) + 5 = ((47 : Nat) : Int)) (fun _ => ?_) (fun h9 => absurd he2 h9)
      refine lv_aload_n hexec hb xrd_47 rfl (lv_at hl' 1 rfl) (xW_getR hexec hb hf0.1 hf0.2.1 qa1 qa4 sa0 xrd_48 ?_)
      refine lv_aload_n hexec hb xrd_51 rfl (lv_at hl' 0 rfl) (xW_getR hexec hb hf0.1 hf0.2.1 qb1 qb4 sb0 xrd_52 ?_)
      obtain ⟨z, ho, hpe, hz⟩ := xok_some hx
      refine hcall q.1 w.1 z ls' hl'.1 hpe fun H1 L hr1 hL1 => ?_
      rcases hz with hz | hz | hz
      · cases hz
      · exact lv_if_ne hexec hb xrd_58 (by decide : ((58 : Nat) : Int) + 5 = ((63 : Nat) : Int)) (fun h9 => absurd hz h9) (fun _ => lv_iconst hexec hb xrd_61 (by decide) (xrec_end hexec hb hret hlk (Or.inl rfl) (by rw [ho, hz]) hr1 (by simpa using hL1) (Nat.zero_add _) (Nat.zero_add _) xrd_62))
      · exact lv_if_ne hexec hb xrd_58 (by decide : ((58 : Nat) : Int) + 5 = ((63 : Nat) : Int)) (fun _ => lv_iconst hexec hb xrd_63 (by decide) (xrec_end hexec hb hret hlk (Or.inr rfl) (by rw [ho, hz]) hr1 (by simpa using hL1) (Nat.zero_add _) (Nat.zero_add _) xrd_64)) (fun h9 => by rw [hz] at h9; exact absurd h9 (by decide))
end XRB
