/-! fields, arrays, new cells over xS -/
/-- getfield at the entry 'index' of class own reads field k of the class c -/
def xLG (own : String) (c k index : Nat) : Prop := ∃ (C : String) (T : u_T) (N : Nat), xcl[c]? = some (C, T, N) ∧ k < N ∧ (∀ w ∈ u_ws C T N, w ∈ lw_all) ∧
  (Cond.fieldLink own index (T k).1 (T k).2.1 (T k).2.2.1 ∈ lw_all ∨ (∃ host : String, Cond.fieldLinkNest own index (T k).1 (T k).2.1 (T k).2.2.1 host ∈ lw_tbl) ∨ ∃ ref : String, Cond.fieldLink own index ref (T k).2.1 (T k).2.2.1 ∈ lw_all ∧ Cond.sameField ref (T k).1 (T k).2.1 (T k).2.2.1 ∈ lw_all)
/-- putfield likewise, of a type; fin: a final field in its class's constructor -/
def xLP (own name : String) (c k index : Nat) (ty : FieldType) : Prop := ∃ (C : String) (T : u_T) (N : Nat) (tys : Nat → FieldType), xcl[c]? = some (C, T, N) ∧ k < N ∧ (∀ w ∈ u_ws C T N, w ∈ lw_all) ∧
  (∀ k, k < N → parseFieldDescriptor (T k).2.2.1 = some (tys k)) ∧ (∀ a, a < N → ∀ b, b < N → a ≠ b → (T a).2.1 ≠ (T b).2.1) ∧ tys k = ty ∧
  (((T k).2.2.2 = false ∧ (Cond.fieldLink own index (T k).1 (T k).2.1 (T k).2.2.1 ∈ lw_all ∨ (∃ host : String, Cond.fieldLinkNest own index (T k).1 (T k).2.1 (T k).2.2.1 host ∈ lw_tbl) ∨ ∃ ref : String, Cond.fieldLink own index ref (T k).2.1 (T k).2.2.1 ∈ lw_all ∧ Cond.sameField ref (T k).1 (T k).2.1 (T k).2.2.1 ∈ lw_all)) ∨
   ((T k).2.2.2 = true ∧ name = "<init>" ∧ (T k).1 = own ∧ Cond.fieldLink own index (T k).1 (T k).2.1 (T k).2.2.1 ∈ lw_all))
section XHP
variable {Z : XZ} {κ : XK} {μ : XU} {δ : XT} {pc : Nat} {ls : Array Slot} {st : List Value} {pr : XM}
theorem xC.K (C : xC Z κ δ) : va_K Z.1.1 xcl (xtys Z.1) κ.2.2.2.1 := by
  obtain ⟨-, -, -, -, -, -, -, -, -, hW, -, G⟩ := C
  exact va_K.moved hW.alike G.1
theorem xC.tbl (C : xC Z κ δ) {w : Cond} (h : w ∈ lw_tbl) (hw : w.onTables = true) : va_Nw w Z.2.1 := by
  obtain ⟨-, -, -, -, -, -, -, -, -, -, -, G⟩ := C
  exact va_Nw.of hw (G.2.1 w h)
theorem xC.W (C : xC Z κ δ) : Z.2.1.WarmedH κ.2.2.2.1.vm := C.2.2.2.2.2.2.2.2.2.1
theorem xC.G (C : xC Z κ δ) : xG Z := C.2.2.2.2.2.2.2.2.2.2.2
theorem xC.l (C : xC Z κ δ) : κ.2.1 = Z.2.2.2.2.1 := C.2.2.2.2.2.2.2.2.2.2.1
theorem xC.ws (C : xC Z κ δ) : ∀ w ∈ lw_all, w.before κ.2.2.2.2.2.1 κ.2.2.2.1 = true := C.2.2.2.2.1
theorem xC.own (C : xC Z κ δ) : κ.2.2.2.1.vm.findClass δ.2.2.1 = some κ.2.2.2.2.1.cls := C.2.2.2.1
theorem xcl_lt {c : Nat} {q : vw_C} (h : xcl[c]? = some q) : c < 100 := by
  have h1 : c < xcl.length := (List.getElem?_eq_some_iff.mp h).1
  have h2 : xcl.length = 17 := rfl
  omega
theorem xSt.obj {D : XD} {a c : Nat} {fs : List Value} {H : Heap} {q : vw_C} (h : xSt D a (.inr (c, fs)) H) (hc : xcl[c]? = some q) : va_at D.1 xcl (a, .inr (c, fs)) H := by
  have hl := xcl_lt hc
  unfold xSt at h
  dsimp only at h
  rw [if_pos hl] at h
  exact h
theorem xSt.ofObj {D : XD} {a c : Nat} {fs : List Value} {H : Heap} {q : vw_C} (hc : xcl[c]? = some q) (h : va_at D.1 xcl (a, .inr (c, fs)) H) : xSt D a (.inr (c, fs)) H := by
  have hl := xcl_lt hc
  unfold xSt
  dsimp only
  rw [if_pos hl]
  exact h
theorem xWk.obj {D : XD} {a c : Nat} {fs : List Value} {H : Heap} {q : vw_C} (h : xWk D a (.inr (c, fs)) H) (hc : xcl[c]? = some q) : ∃ cell : Cell, H[a]? = some cell ∧ cell.cls = D.1.1 c ∧ cell.vm.isStatics = false ∧ cell.vm ≠ .unknown ∧ ∀ k : Nat, k < q.2.2 → cell.slots[D.1.2 c k]? = some (vp_V fs k) := by
  have hl := xcl_lt hc
  unfold xWk at h
  dsimp only at h
  rw [if_pos hl] at h
  obtain ⟨r, cell, h0, h1⟩ := h
  cases h0.symm.trans hc
  exact ⟨cell, h1⟩
theorem xfld_some {h : XH} {r : Option Nat} {c k : Nat} {v : Value} (e : xfld h r c k = some v) : ∃ (a : Nat) (fs : List Value), r = some a ∧ h.1 a = some (.inr (c, fs)) ∧ fs[k]? = some v := by
  unfold xfld at e
  split at e
  · cases e
  · rename_i a
    split at e
    · rename_i o ho
      split at e
      · rename_i hc
        obtain ⟨c2, fs⟩ := o
        dsimp only at hc e
        subst hc
        exact ⟨a, fs, rfl, ho, e⟩
      · cases e
    · cases e
/-- the machine's getfield where the abstract heap has the cell -/
theorem xget_core {h : XH} {H : Heap} {R : Room} {locs : List Loc} {cells slots : Nat} {Q : State → Prop} {r : Option Nat} {c k index : Nat} {v : Value} (L : xLG δ.2.2.1 c k index) (C : xC Z κ δ) (hR : xRel Z h H) (e : xfld h r c k = some v) (d : decode δ.1 pc = .ok (.getfield index, 3))
    (kk : xW κ R H locs cells slots Q (F0 κ.2.2.2.2.1 (pc + 3) ls (v :: st))) : xW κ R H locs cells slots Q (F0 κ.2.2.2.2.1 pc ls (va_rf r :: st)) := by
  obtain ⟨a, fs, rfl, ha, hv⟩ := xfld_some e
  obtain ⟨Cn, T, N, hc, hk, hin, hl⟩ := L
  obtain ⟨cell, q1, q2, q3, q3', q4⟩ := (hR.2.2.2.2.2 a _ ha).1.obj hc
  obtain ⟨hS, hfc, kC, hkC, hkind⟩ := C.K.1 c _ hc
  obtain ⟨cf, kf, fi, f, hi, hsl⟩ := hS k hk
  have hst := (u_facts hfc hkC (u_lays C.ws hin hk) hi).1
  have hslot : cell.slots[f.slot]? = some v := by
    rw [hsl, q4 k hk]
    simp [vp_V, hv]
  rcases hl with hl | ⟨host, hl⟩ | ⟨ref, hl, hs⟩
  · exact W.getf C.1 C.2.1 C.own (C.ws _ hl) hi hst q1 q3' hslot rfl rfl d kk
  · exact va_Wgetf C.1 C.2.1 C.own (va_Nw.use rfl (va_Nw.warmF C.W (C.tbl hl rfl))) hi hst q1 q3' hslot rfl rfl d kk
  · exact W.getf C.1 C.2.1 C.own (C.ws _ hl) (u_same (C.ws _ hs) _ hi) hst q1 q3' hslot rfl rfl d kk
theorem xs_gI {r : Option Nat} {c k index : Nat} {kk : Int32 → XM} (L : xLG δ.2.2.1 c k index) (d : decode δ.1 pc = .ok (.getfield index, 3)) (K : ∀ x : Int32, xS Z κ μ δ (pc + 3) ls (.int x :: st) (kk x)) : xS Z κ μ δ pc ls (va_rf r :: st) (xgI r c k kk) := by
  intro h o h1 e
  unfold xgI at e
  split at e
  · rename_i x hx
    obtain ⟨a, b⟩ := K x h o h1 e
    exact ⟨a, fun H locs R C q1 q2 q3 q4 q5 q6 q7 q8 q9 => xget_core L C q2 hx d (b H locs R C q1 q2 q3 q4 q5 q6 q7 q8 q9)⟩
  · cases e
theorem xs_gL {r : Option Nat} {c k index : Nat} {kk : Int64 → XM} (L : xLG δ.2.2.1 c k index) (d : decode δ.1 pc = .ok (.getfield index, 3)) (K : ∀ x : Int64, xS Z κ μ δ (pc + 3) ls (.long x :: st) (kk x)) : xS Z κ μ δ pc ls (va_rf r :: st) (xgL r c k kk) := by
  intro h o h1 e
  unfold xgL at e
  split at e
  · rename_i x hx
    obtain ⟨a, b⟩ := K x h o h1 e
    exact ⟨a, fun H locs R C q1 q2 q3 q4 q5 q6 q7 q8 q9 => xget_core L C q2 hx d (b H locs R C q1 q2 q3 q4 q5 q6 q7 q8 q9)⟩
  · cases e
theorem xs_gR {r : Option Nat} {c k index : Nat} {kk : Option Nat → XM} (L : xLG δ.2.2.1 c k index) (d : decode δ.1 pc = .ok (.getfield index, 3)) (K : ∀ x : Option Nat, xS Z κ μ δ (pc + 3) ls (va_rf x :: st) (kk x)) : xS Z κ μ δ pc ls (va_rf r :: st) (xgR r c k kk) := by
  intro h o h1 e
  unfold xgR at e
  split at e
  · rename_i hx
    obtain ⟨a, b⟩ := K none h o h1 e
    exact ⟨a, fun H locs R C q1 q2 q3 q4 q5 q6 q7 q8 q9 => xget_core L C q2 hx d (b H locs R C q1 q2 q3 q4 q5 q6 q7 q8 q9)⟩
  · rename_i x hx
    obtain ⟨a, b⟩ := K (some x) h o h1 e
    exact ⟨a, fun H locs R C q1 q2 q3 q4 q5 q6 q7 q8 q9 => xget_core L C q2 hx d (b H locs R C q1 q2 q3 q4 q5 q6 q7 q8 q9)⟩
  · cases e
theorem xput_some {h h2 : XH} {r : Option Nat} {c k : Nat} {v : Value} (e : xput h r c k v = some h2) : ∃ (a : Nat) (fs : List Value), r = some a ∧ h.1 a = some (.inr (c, fs)) ∧ k < fs.length ∧ h.2.2.2.1 ≤ a ∧ h2 = xset h a (.inr (c, fs.set k v)) := by
  unfold xput at e
  split at e
  · cases e
  · rename_i a
    split at e
    · rename_i o ho
      split at e
      · rename_i hc
        obtain ⟨c2, fs⟩ := o
        dsimp only at hc e
        obtain ⟨rfl, h3, h4⟩ := hc
        cases e
        exact ⟨a, fs, rfl, ho, h3, h4, rfl⟩
      · cases e
    · cases e
theorem xfree_app {locs : List Loc} {a k : Nat} (h : ∀ z ∈ locs, xfree Z z.base) (ha : xfree Z a) : ∀ z ∈ locs ++ [(⟨a, k⟩ : Loc)], xfree Z z.base := by
  intro z hz
  rcases List.mem_append.mp hz with h1 | h1
  · exact h z h1
  · rw [List.mem_singleton.mp h1]
    exact ha
theorem xput_core {h h2 : XH} {H : Heap} {R : Room} {locs : List Loc} {cells slots : Nat} {Q : State → Prop} {r : Option Nat} {c k index : Nat} {v : Value} {ty : FieldType} (L : xLP δ.2.2.1 δ.2.2.2.1.1 c k index ty) (hn : narrow ty v = v) (hfit : fits ty v = true) (C : xC Z κ δ) (hR : xRel Z h H) (hL : ∀ z ∈ locs, xfree Z z.base) (e : xput h r c k v = some h2) (d : decode δ.1 pc = .ok (.putfield index, 3))
    (kk : ∀ (H1 : Heap) (locs1 : List Loc), xRel Z h2 H1 → (∀ z ∈ locs1, xfree Z z.base) → xW κ R H1 locs1 cells slots Q (F0 κ.2.2.2.2.1 (pc + 3) ls st)) : xW κ R H locs cells slots Q (F0 κ.2.2.2.2.1 pc ls (v :: va_rf r :: st)) := by
  obtain ⟨a, fs, rfl, ha, hlen, hB, rfl⟩ := xput_some e
  obtain ⟨Cn, T, N, tys, hc, hk, hin, hty, hnm, hd, hl⟩ := L
  have hat := ((hR.2.2.2.2.2 a _ ha).2 (by rw [← hR.2.2.2.1]; exact hB)).obj hc
  obtain ⟨q, h1, cell, q1, q2, q3, q4⟩ := hat
  have hq : q = (Cn, T, N) := Option.some.inj (h1.symm.trans hc)
  subst hq
  have hap := va_apart (own := δ.2.2.1) C.ws hin tys hty hnm C.K hc
  obtain ⟨hS, hfc, kC, hkC, hkind⟩ := C.K.1 c _ hc
  obtain ⟨cf, kf, fi, f, hi, hsl⟩ := hS k hk
  have hlay := C.ws _ (hin _ (u_in_lay hk))
  have hst := (u_facts hfc hkC (u_lays C.ws hin hk) hi).1
  have hdk := hty k hk
  rw [hd] at hdk
  have ha' : xfree Z a := by
    show Z.2.1.heap.size ≤ a
    rw [← hR.2.2.2.2.1, ← hR.2.2.2.1]
    exact hB
  have fin : ∀ H1 : Heap, H1[a]? = some (cell.setSlot f.slot v) → H1.size = H.size → (∀ q, q ≠ a → H1[q]? = H[q]?) → xW κ R H1 (locs ++ [⟨a, f.slot⟩]) cells slots Q (F0 κ.2.2.2.2.1 (pc + 3) ls st) := by
    intro H1 e1 e2 e3
    rw [hsl] at e1 ⊢
    refine kk H1 _ (hR.set hB e2 e3 ?_) (xfree_app hL ha')
    refine xSt.ofObj hc ⟨_, hc, t_OB.to (V := updV (vp_V fs) k v) ⟨_, e1, q2, q3, t_set q4 hap hk v⟩ (fun j _ => vp_updV_set hlen v j)⟩
  rcases hl with ⟨hfin, hl⟩ | ⟨hfin, hin2, hdecl, hl⟩
  · unfold u_lay at hlay
    rw [if_neg (by rw [hfin]; decide)] at hlay
    have h6 := u_store hfc hkC hkind hlay hi hdk hn hfit
    rcases hl with hl | ⟨host, hl⟩ | ⟨ref, hl, hs⟩
    rotate_right
    · exact W.putK C.1 C.2.1 (f := f) ⟨C.own, C.ws _ hl, ⟨_, _, _, u_same (C.ws _ hs) _ hi⟩, hst⟩ (by rw [q2]; exact h6) q1 q3 (by rw [hsl]; exact k2_hasslot (q4 k hk)) rfl rfl d fin
    · exact W.putK C.1 C.2.1 (f := f) ⟨C.own, C.ws _ hl, ⟨_, _, _, hi⟩, hst⟩ (by rw [q2]; exact h6) q1 q3 (by rw [hsl]; exact k2_hasslot (q4 k hk)) rfl rfl d fin
    · exact va_WputK C.1 C.2.1 C.own (va_Nw.use rfl (va_Nw.warmF C.W (C.tbl hl rfl))) hi hst (by rw [q2]; exact h6) q1 q3 (by rw [hsl]; exact k2_hasslot (q4 k hk)) rfl rfl d fin
  · unfold u_lay at hlay
    rw [if_pos hfin] at hlay
    have hcf : κ.2.2.2.2.1.cls = cf := by
      obtain ⟨_, _, c', _, _, _, -, -, hf', -, -, -, hown2, -⟩ := Cond.laysFinal_spec hlay
      have e1 : c' = cf := by have := hi.symm.trans hf'; simp at this; exact this.1.symm
      rw [hdecl] at hown2
      rw [← e1]; exact Option.some.inj (C.own.symm.trans hown2)
    have h6 := u_fits hfc hkC hkind (Or.inr hlay) hi hdk hn hfit
    exact W.putFinK C.1 C.2.1 C.own (C.ws _ hl) hi hst hcf (C.2.2.2.2.2.2.2.2.1.1.trans hin2) (by rw [q2]; exact h6) q1 q3 (by rw [hsl]; exact k2_hasslot (q4 k hk)) rfl rfl d fin
theorem xs_pF {r : Option Nat} {c k index : Nat} {v : Value} {ty : FieldType} (hn : narrow ty v = v) (hfit : fits ty v = true) (L : xLP δ.2.2.1 δ.2.2.2.1.1 c k index ty) (d : decode δ.1 pc = .ok (.putfield index, 3)) (K : xS Z κ μ δ (pc + 3) ls st pr) : xS Z κ μ δ pc ls (v :: va_rf r :: st) (xpF r c k v pr) := by
  intro h o h1 e
  unfold xpF at e
  split at e
  · rename_i h2 hx
    obtain ⟨a, b⟩ := K h2 o h1 e
    obtain ⟨a9, fs9, -, -, -, -, e9⟩ := xput_some hx
    have e5 : h2.2 = h.2 := by rw [e9]; rfl
    refine ⟨by unfold xMono at a ⊢; rw [e5] at a; exact a, fun H locs R C q1 q2 q3 q4 q5 q6 q7 q8 q9 => xput_core L hn hfit C q2 q3 hx d (fun H1 locs1 r1 r2 => ?_)⟩
    have b := b H1 locs1 R C q1 r1 r2 (by rw [e5]; exact q4) (by rw [e5]; exact q5) q6 q7 q8 q9
    rw [e5] at b
    exact b
  · cases e
theorem xs_pI {r : Option Nat} {c k index : Nat} {x : Int32} (L : xLP δ.2.2.1 δ.2.2.2.1.1 c k index .int) (d : decode δ.1 pc = .ok (.putfield index, 3)) (K : xS Z κ μ δ (pc + 3) ls st pr) : xS Z κ μ δ pc ls (.int x :: va_rf r :: st) (xpF r c k (.int x) pr) := xs_pF rfl rfl L d K
theorem xs_pZ {r : Option Nat} {c k index : Nat} {x : Int32} {ty : FieldType} (hty : ty = .boolean ∨ ty = .byte) (L : xLP δ.2.2.1 δ.2.2.2.1.1 c k index ty) (d : decode δ.1 pc = .ok (.putfield index, 3)) (K : xS Z κ μ δ (pc + 3) ls st pr) : xS Z κ μ δ pc ls (.int x :: va_rf r :: st) (xpZ r c k x pr) := by
  unfold xpZ
  split
  · rename_i hx
    rcases hx with rfl | rfl <;> rcases hty with rfl | rfl <;> exact xs_pF rfl rfl L d K
  · exact xS.fail
theorem xs_pR {r x : Option Nat} {c k index : Nat} {ty : FieldType} (hty : ty.isReference = true) (L : xLP δ.2.2.1 δ.2.2.2.1.1 c k index ty) (d : decode δ.1 pc = .ok (.putfield index, 3)) (K : xS Z κ μ δ (pc + 3) ls st pr) : xS Z κ μ δ pc ls (va_rf x :: va_rf r :: st) (xpF r c k (va_rf x) pr) := by
  refine xs_pF ?_ ?_ L d K
  · cases x <;> cases ty <;> first | rfl | (exact absurd hty (by decide))
  · cases x <;> cases ty <;> first | rfl | (exact absurd hty (by decide))
end XHP
