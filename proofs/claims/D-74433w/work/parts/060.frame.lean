/-! THE ABSTRACT WORLD: cells by their addresses, the next address, the slots made; programs over it; the machine follows a program (xS) -/
abbrev XE : Type := (Nat × vp_A) ⊕ (Nat × List Value)
abbrev XN : Type := Nat × (Nat → Option Nat)
abbrev XH : Type := (Nat → Option XE) × Nat × Nat × XN
abbrev XO : Type := Except (String × Nat) (Option Value)
abbrev XM : Type := XH → Option (XO × XH)
abbrev XD : Type := va_G × (Nat → ClassId) × (Nat → ClassId)
abbrev XK : Type := Program × Launch × Env × State × MethodId × Array Value × List Frame × Method × Code
abbrev XU : Type := Nat × Nat × Nat × Nat
abbrev XZ : Type := XD × State × XN × Array Value × Launch × XK
abbrev XT : Type := ByteArray × Nat × String × (String × String) × Option FieldType × List (Nat × Nat × Nat × Nat)
def xcl : List vw_C := [(RX1, TX1, 7), (RX2, TX2, 9), (RX3, TX3, 3), (RX4, TX4, 21), (RX5, TX5, 6), (RX6, TX6, 8), (RX7, TX7, 3), (RX8, TX8, 3), (RX9, TX9, 8), (RJ2, TJ2, 3), (RJ9, TJ9, 4), (RJ10, TJ10, 4), (RJ14, TJ14, 4), (RJ12, TJ12, 0), (RJ8, TJ8, 0), (RJ21, TJ21, 0), (RJ23, TJ23, 0)]
def xtys (D : XD) : List (ClassId × FieldType) := [(D.2.1 0, .int), (D.2.1 1, .byte), (D.2.1 2, .long), (D.2.1 3, .object "java/lang/Object"), (D.2.1 4, .array .int), (D.2.1 5, .array .long)]
def xty (t : Nat) : FieldType := match t with
  | 0 => .int
  | 1 => .byte
  | 2 => .long
  | 3 => .object "java/lang/Object"
  | 4 => .array .int
  | _ => .array .long
theorem xtys_at (D : XD) {t : Nat} (h : t < 6) : (xtys D)[t]? = some (D.2.1 t, xty t) := by
  match t, h with
  | 0, _ => rfl
  | 1, _ => rfl
  | 2, _ => rfl
  | 3, _ => rfl
  | 4, _ => rfl
  | 5, _ => rfl
/-! programs -/
def xset (h : XH) (a : Nat) (e : XE) : XH := (fun q => if q = a then some e else h.1 q, h.2)
def xadd (h : XH) (e : XE) (n : Nat) : XH := (fun q => if q = h.2.1 then some e else h.1 q, h.2.1 + 1, h.2.2.1 + n, h.2.2.2)
def xfail : XM := fun _ => none
def xret (v : Option Value) : XM := fun h => some (.ok v, h)
def xthrow (E : String) (q : Nat) : XM := fun h => some (.error (E, q), h)
def xlet {α : Type} (v : α) (k : α → XM) : XM := k v
def xfld (h : XH) (r : Option Nat) (c k : Nat) : Option Value := match r with
  | none => none
  | some a => match h.1 a with
    | some (.inr o) => if o.1 = c then o.2[k]? else none
    | _ => none
def xgI (r : Option Nat) (c k : Nat) (kk : Int32 → XM) : XM := fun h => match xfld h r c k with
  | some (.int x) => kk x h
  | _ => none
def xgL (r : Option Nat) (c k : Nat) (kk : Int64 → XM) : XM := fun h => match xfld h r c k with
  | some (.long x) => kk x h
  | _ => none
def xgR (r : Option Nat) (c k : Nat) (kk : Option Nat → XM) : XM := fun h => match xfld h r c k with
  | some .null => kk none h
  | some (.ref a) => kk (some a) h
  | _ => none
def xput (h : XH) (r : Option Nat) (c k : Nat) (v : Value) : Option XH := match r with
  | none => none
  | some a => match h.1 a with
    | some (.inr o) => if o.1 = c ∧ k < o.2.length ∧ h.2.2.2.1 ≤ a then some (xset h a (.inr (c, o.2.set k v))) else none
    | _ => none
def xpF (r : Option Nat) (c k : Nat) (v : Value) (kk : XM) : XM := fun h => match xput h r c k v with
  | some h1 => kk h1
  | none => none
def xpZ (r : Option Nat) (c k : Nat) (x : Int32) (kk : XM) : XM := if x = 0 ∨ x = 1 then xpF r c k (.int x) kk else xfail
def xarr (h : XH) (r : Option Nat) (t : Nat) : Option vp_A := match r with
  | none => none
  | some a => match h.1 a with
    | some (.inl v) => if v.1 = t then some v.2 else none
    | _ => none
def xin (i : Int32) (n : Nat) : Bool := !(decide (i < 0) || decide (n ≤ i.toNatClampNeg))
def xaI (t : Nat) (r : Option Nat) (i : Int32) (kk : Int32 → XM) : XM := fun h => match xarr h r t with
  | some (n, .inl f) => if xin i n = true then kk (f i.toNatClampNeg) h else none
  | _ => none
def xaL (r : Option Nat) (i : Int32) (kk : Int64 → XM) : XM := fun h => match xarr h r 2 with
  | some (n, .inr (.inl f)) => if xin i n = true then kk (f i.toNatClampNeg) h else none
  | _ => none
def xaR (t : Nat) (r : Option Nat) (i : Int32) (kk : Option Nat → XM) : XM := fun h => match xarr h r t with
  | some (n, .inr (.inr (.inr (.inr f)))) => if xin i n = true then kk (f i.toNatClampNeg) h else none
  | _ => none
def xsI (r : Option Nat) (i x : Int32) (kk : XM) : XM := fun h => match xarr h r 0 with
  | some (n, .inl f) => if xin i n = true ∧ h.2.2.2.1 ≤ r.getD 0 then kk (xset h (r.getD 0) (.inl (0, n, .inl (upd f i.toNatClampNeg x)))) else none
  | _ => none
def xsB (r : Option Nat) (i x : Int32) (kk : XM) : XM := fun h => match xarr h r 1 with
  | some (n, .inl f) => if xin i n = true ∧ h.2.2.2.1 ≤ r.getD 0 then kk (xset h (r.getD 0) (.inl (1, n, .inl (upd f i.toNatClampNeg (vp_nar .byte x))))) else none
  | _ => none
def xsL (r : Option Nat) (i : Int32) (x : Int64) (kk : XM) : XM := fun h => match xarr h r 2 with
  | some (n, .inr (.inl f)) => if xin i n = true ∧ h.2.2.2.1 ≤ r.getD 0 then kk (xset h (r.getD 0) (.inl (2, n, .inr (.inl (vp_updL f i.toNatClampNeg x))))) else none
  | _ => none
def xobj (h : XH) (r : Option Nat) : Bool := match r with
  | none => true
  | some a => match h.1 a with
    | some (.inr o) => decide (o.1 < 17)
    | _ => false
def xsR (r : Option Nat) (i : Int32) (x : Option Nat) (kk : XM) : XM := fun h => match xarr h r 3 with
  | some (n, .inr (.inr (.inr (.inr f)))) => if xin i n = true ∧ h.2.2.2.1 ≤ r.getD 0 ∧ xobj h x = true then kk (xset h (r.getD 0) (.inl (3, n, .inr (.inr (.inr (.inr (va_up f i.toNatClampNeg x))))))) else none
  | _ => none
def xlen (t : Nat) (r : Option Nat) (kk : Int32 → XM) : XM := fun h => match xarr h r t with
  | some v => kk (Int32.ofNat v.1) h
  | none => none
def xnew (c : Nat) (fs : List Value) (kk : Option Nat → XM) : XM := fun h => kk (some h.2.1) (xadd h (.inr (c, fs)) fs.length)
def xzero (t n : Nat) : vp_A := match t with
  | 0 => (n, .inl fun _ => 0)
  | 1 => (n, .inl fun _ => 0)
  | 2 => (n, .inr (.inl fun _ => 0))
  | _ => (n, .inr (.inr (.inr (.inr fun _ => none))))
def xnewa (t : Nat) (n : Int32) (kk : Option Nat → XM) : XM := fun h => if n < 0 ∨ 65536 < n.toNatClampNeg then none else kk (some h.2.1) (xadd h (.inl (t, xzero t n.toNatClampNeg)) n.toNatClampNeg)
def xK (i : Nat) (kk : Option Nat → XM) : XM := fun h => kk (h.2.2.2.2 i) h
def xrv (r : Option Nat) (c : Nat) (pr : XM) : XM := fun h => match r with
  | none => none
  | some a => match h.1 a with
    | some (.inr o) => if o.1 = c then pr h else none
    | _ => none
def xnn (r : Option Nat) (pr : XM) : XM := match r with
  | none => xfail
  | some _ => pr
def xcall (pr : XM) (kk : Option Value → XM) (hd : String × Nat → XM) : XM := fun h => match pr h with
  | none => none
  | some (.ok v, h1) => kk v h1
  | some (.error x, h1) => hd x h1
def xup (x : String × Nat) : XM := fun h => some (.error x, h)
def xkI (kk : Int32 → XM) (v : Option Value) : XM := match v with
  | some (.int x) => kk x
  | _ => xfail
def xkL (kk : Int64 → XM) (v : Option Value) : XM := match v with
  | some (.long x) => kk x
  | _ => xfail
def xkR (kk : Option Nat → XM) (v : Option Value) : XM := match v with
  | some .null => kk none
  | some (.ref a) => kk (some a)
  | _ => xfail
def xkV (kk : XM) (v : Option Value) : XM := match v with
  | none => kk
  | _ => xfail
def xcI (pr : XM) (kk : Int32 → XM) : XM := xcall pr (xkI kk) xup
def xcL (pr : XM) (kk : Int64 → XM) : XM := xcall pr (xkL kk) xup
def xcR (pr : XM) (kk : Option Nat → XM) : XM := xcall pr (xkR kk) xup
def xcV (pr : XM) (kk : XM) : XM := xcall pr (xkV kk) xup
def xz01 (x : Int32) (kk : XM) : XM := if x = 0 ∨ x = 1 then kk else xfail
def xnz (x : Int32) (kk : XM) : XM := if x = 0 then xfail else kk
def xnzL (x : Int64) (kk : XM) : XM := if x = 0 then xfail else kk
def xnull {α : Type} (r : Option α) (kt : XM) (kf : XM) : XM := match r with
  | none => kt
  | some _ => kf
/-! the machine's heap and the abstract one -/
def xSt (D : XD) (a : Nat) (e : XE) (H : Heap) : Prop := match e with
  | .inl v => v.1 < 6 ∧ H[a]? = some (vp_cell (D.2.1 v.1) v.2)
  | .inr o => if o.1 < 100 then va_at D.1 xcl (a, .inr o) H else H[a]? = some { cls := D.2.2 o.1, slots := o.2.toArray, vm := .none }
def xval (v : vp_A) (j : Nat) : Value := match v.2 with
  | .inl f => .int (f j)
  | .inr (.inl f) => .long (f j)
  | .inr (.inr (.inl f)) => .float (f j)
  | .inr (.inr (.inr (.inl f))) => .double (f j)
  | .inr (.inr (.inr (.inr f))) => va_rf (f j)
theorem xval_cell (cA : ClassId) (v : vp_A) : vp_cell cA v = arrV cA v.1 (xval v) := by
  obtain ⟨n, f | f | f | f | f⟩ := v <;> rfl
/-- what a reader needs of a cell -/
def xWk (D : XD) (a : Nat) (e : XE) (H : Heap) : Prop := match e with
  | .inl v => v.1 < 6 ∧ ∃ cell : Cell, H[a]? = some cell ∧ cell.cls = D.2.1 v.1 ∧ cell.vm.isStatics = false ∧ cell.vm ≠ .unknown ∧ cell.slots.size = v.2.1 ∧ ∀ j : Nat, j < v.2.1 → cell.slots[j]? = some (xval v.2 j)
  | .inr o => if o.1 < 100 then ∃ (r : vw_C) (cell : Cell), xcl[o.1]? = some r ∧ H[a]? = some cell ∧ cell.cls = D.1.1 o.1 ∧ cell.vm.isStatics = false ∧ cell.vm ≠ .unknown ∧ ∀ k : Nat, k < r.2.2 → cell.slots[D.1.2 o.1 k]? = some (vp_V o.2 k) else H[a]? = some { cls := D.2.2 o.1, slots := o.2.toArray, vm := .none }
/-- a cell: old ones (below B) are only read -/
def xAt (D : XD) (B a : Nat) (e : XE) (H : Heap) : Prop := xWk D a e H ∧ (B ≤ a → xSt D a e H)
theorem xSt.weak {D : XD} {a : Nat} {e : XE} {H : Heap} (h : xSt D a e H) : xWk D a e H := by
  cases e with
  | inl v =>
    refine ⟨h.1, _, h.2, ?_, ?_, ?_, ?_, fun j hj => ?_⟩
    · rw [xval_cell]; rfl
    · rw [xval_cell]; rfl
    · rw [xval_cell]; exact fun q => nomatch q
    · rw [xval_cell, arrV_size]
    · rw [xval_cell, arrV_read _ _ hj]
  | inr o =>
    unfold xSt at h
    unfold xWk
    dsimp only at h ⊢
    split at h
    · rename_i hc
      rw [if_pos hc]
      obtain ⟨r, h1, cell, h2, h3, h4, h5⟩ := h
      exact ⟨r, cell, h1, h2, h3, by rw [h4]; rfl, (by rw [h4]; exact fun q => nomatch q), h5⟩
    · rename_i hc
      rw [if_neg hc]
      exact h
theorem xAt.of {D : XD} {B a : Nat} {e : XE} {H : Heap} (h : xSt D a e H) : xAt D B a e H := ⟨h.weak, fun _ => h⟩
theorem xSt.kept {D : XD} {a : Nat} {e : XE} {H H1 : Heap} (h : xSt D a e H) (hq : H1[a]? = H[a]?) : xSt D a e H1 := by
  cases e with
  | inl v => exact ⟨h.1, hq.trans h.2⟩
  | inr o =>
    unfold xSt at h ⊢
    dsimp only at h ⊢
    split at h
    · rename_i hc
      rw [if_pos hc]
      exact va_at.kept h hq
    · rename_i hc
      rw [if_neg hc]
      exact hq.trans h
theorem xWk.kept {D : XD} {a : Nat} {e : XE} {H H1 : Heap} (h : xWk D a e H) (hq : H1[a]? = H[a]?) : xWk D a e H1 := by
  cases e with
  | inl v =>
    obtain ⟨h0, cell, h1, h2⟩ := h
    exact ⟨h0, cell, hq.trans h1, h2⟩
  | inr o =>
    unfold xWk at h ⊢
    dsimp only at h ⊢
    split at h
    · rename_i hc
      rw [if_pos hc]
      obtain ⟨r, cell, h0, h1, h2⟩ := h
      exact ⟨r, cell, h0, hq.trans h1, h2⟩
    · rename_i hc
      rw [if_neg hc]
      exact hq.trans h
theorem xAt.kept {D : XD} {B a : Nat} {e : XE} {H H1 : Heap} (h : xAt D B a e H) (hq : H1[a]? = H[a]?) : xAt D B a e H1 := ⟨h.1.kept hq, fun hB => (h.2 hB).kept hq⟩
theorem xAt.lt {D : XD} {B a : Nat} {e : XE} {H : Heap} (h : xAt D B a e H) : a < H.size := by
  have h := h.1
  cases e with
  | inl v =>
    obtain ⟨_, cell, h1, -⟩ := h
    exact (Array.getElem?_eq_some_iff.mp h1).1
  | inr o =>
    unfold xWk at h
    dsimp only at h
    split at h
    · obtain ⟨r, cell, -, h1, -⟩ := h
      exact (Array.getElem?_eq_some_iff.mp h1).1
    · exact (Array.getElem?_eq_some_iff.mp h).1
def xRel (Z : XZ) (h : XH) (H : Heap) : Prop := H.size = h.2.1 ∧ Z.2.1.heap.size ≤ H.size ∧ (∀ q : Nat, q < Z.2.1.heap.size → H[q]? = Z.2.1.heap[q]?) ∧ h.2.2.2 = Z.2.2.1 ∧ Z.2.2.1.1 = Z.2.1.heap.size ∧ ∀ (a : Nat) (e : XE), h.1 a = some e → xAt Z.1 Z.2.2.1.1 a e H
theorem xRel.set {Z : XZ} {h : XH} {H H1 : Heap} {a : Nat} {e : XE} (hr : xRel Z h H) (ha : h.2.2.2.1 ≤ a) (z : H1.size = H.size) (oq : ∀ q : Nat, q ≠ a → H1[q]? = H[q]?) (he : xSt Z.1 a e H1) : xRel Z (xset h a e) H1 := by
  obtain ⟨r1, r2, r3, r4, r5, r6⟩ := hr
  refine ⟨z.trans r1, by rw [z]; exact r2, fun q hq => ?_, r4, r5, fun b x hx => ?_⟩
  · rw [oq q (fun hqa => by rw [r4, r5] at ha; omega)]
    exact r3 q hq
  · unfold xset at hx
    dsimp only at hx
    split at hx
    · rename_i hb
      cases hx
      rw [hb]
      exact xAt.of he
    · rename_i hb
      exact (r6 b x hx).kept (oq b hb)
theorem xRel.add {Z : XZ} {h : XH} {H H1 : Heap} {e : XE} {n : Nat} (hr : xRel Z h H) (z : H1.size = H.size + 1) (oq : ∀ q : Nat, q < H.size → H1[q]? = H[q]?) (he : xSt Z.1 H.size e H1) : xRel Z (xadd h e n) H1 := by
  obtain ⟨r1, r2, r3, r4, r5, r6⟩ := hr
  refine ⟨by show H1.size = h.2.1 + 1; omega, by omega, fun q hq => ?_, r4, r5, fun b x hx => ?_⟩
  · rw [oq q (Nat.lt_of_lt_of_le hq r2)]
    exact r3 q hq
  · unfold xadd at hx
    dsimp only at hx
    split at hx
    · rename_i hb
      cases hx
      rw [hb, ← r1]
      exact xAt.of he
    · exact (r6 b x hx).kept (oq b (r6 b x hx).lt)
def xfree (Z : XZ) : Addr → Prop := fun q => Z.2.1.heap.size ≤ q
def xQc (Z : XZ) (r : XO) (h1 : XH) : Array Value → State → Outcome → State → Prop := fun _ _ o t => ∃ v : Option Value, r = .ok v ∧ o = .returned v ∧ xRel Z h1 t.heap
def xXC (Z : XZ) (r : XO) (h1 : XH) : String → Nat → State → State → Prop := fun E q _ t => r = .error (E, q) ∧ xRel Z h1 t.heap
def xPc (Z : XZ) (av : List Value) (h : XH) : Array Value → State → Prop := va_Pc av (fun U => Z.2.1.WarmedH U.vm ∧ xRel Z h U.heap)
/-- what holds of the run at the law's start -/
def xG (Z : XZ) : Prop := va_K Z.1.1 xcl (xtys Z.1) Z.2.1 ∧ (∀ w ∈ lw_tbl, w.before Z.2.2.2.1 Z.2.1 = true) ∧ Z.2.2.2.2.1.flags = flags0 ∧ (Jvm.Cond.and given_1 narrow_1).before Z.2.2.2.1 Z.2.1 = true ∧ Z.2.2.1.2 = xcon Z.2.2.2.1 Z.2.1 ∧ ∀ i : Nat, Z.1.2.2 (100 + i) = xlamC Z.2.1 i
/-- what holds in a method's body: the machine, the code δ, the words, the run -/
def xC (Z : XZ) (κ : XK) (δ : XT) : Prop := κ.1.tables.exec = Jvm.exec ∧ κ.2.2.2.2.2.2.2.2.code = δ.1 ∧ κ.2.2.2.2.2.2.2.2.maxLocals = δ.2.1 ∧ κ.2.2.2.1.vm.findClass δ.2.2.1 = some κ.2.2.2.2.1.cls ∧ (∀ w ∈ lw_all, w.before κ.2.2.2.2.2.1 κ.2.2.2.1 = true) ∧ κ.2.2.2.2.2.2.2.1.sig.returnType = δ.2.2.2.2.1 ∧ κ.2.2.2.2.2.2.2.1.locks = false ∧ κ.2.2.2.2.2.2.2.2.exceptionTable.toList = tableOf δ.2.2.2.2.2 ∧ (κ.2.2.2.2.2.2.2.1.name = δ.2.2.2.1.1 ∧ κ.2.2.2.1.methodNamed? ⟨δ.2.2.1, δ.2.2.2.1.1, δ.2.2.2.1.2⟩ = some κ.2.2.2.2.1) ∧ Z.2.1.WarmedH κ.2.2.2.1.vm ∧ κ.2.1 = Z.2.2.2.2.1 ∧ xG Z
abbrev xW (κ : XK) (R : Room) (H : Heap) (locs : List Loc) (cells slots : Nat) (Q : State → Prop) (g : JFrame) : Prop := W κ.1 κ.2.1 κ.2.2.1 R κ.2.2.2.1 κ.2.2.2.2.1 κ.2.2.2.2.2.1 κ.2.2.2.2.2.2.1 κ.2.2.2.2.2.2.2.1 κ.2.2.2.2.2.2.2.2 H locs cells slots Q g
abbrev xWX (κ : XK) (R : Room) (H : Heap) (locs : List Loc) (cells slots : Nat) (Q : State → Prop) (g : JFrame) (q : Addr) : Prop := vx_W κ.1 κ.2.1 κ.2.2.1 R κ.2.2.2.1 κ.2.2.2.2.1 κ.2.2.2.2.2.1 κ.2.2.2.2.2.2.1 κ.2.2.2.2.2.2.2.1 κ.2.2.2.2.2.2.2.2 H locs cells slots Q g q
def xQ (Z : XZ) (κ : XK) (r : XO) (h1 : XH) (mc ms : Nat) : State → Prop := vx_MQ κ.2.2.2.2.2.2.1 (xQc Z r h1) (xXC Z r h1) κ.2.2.2.2.2.1 κ.2.2.2.1 mc ms (xfree Z)
def xMono (h h1 : XH) : Prop := h.2.1 ≤ h1.2.1 ∧ h.2.2.1 ≤ h1.2.2.1
def xS (Z : XZ) (κ : XK) (μ : XU) (δ : XT) (pc : Nat) (ls : Array Slot) (st : List Value) (pr : XM) : Prop := ∀ (h : XH) (r : XO) (h1 : XH), pr h = some (r, h1) → xMono h h1 ∧
  ∀ (H : Heap) (locs : List Loc) (R : Room), xC Z κ δ → (κ.2.2.2.1.heap.size = μ.1 ∧ Z.2.1.heap.size ≤ κ.2.2.2.1.heap.size ∧ ∀ q : Nat, q < Z.2.1.heap.size → κ.2.2.2.1.heap[q]? = Z.2.1.heap[q]?) → xRel Z h H → (∀ z ∈ locs, xfree Z z.base) → μ.1 ≤ h.2.1 → μ.2.1 ≤ h.2.2.1 → R.frames = μ.2.2.1 → R.locals = μ.2.2.2 → h1.2.1 - μ.1 ≤ R.cells → h1.2.2.1 - μ.2.1 ≤ R.slots →
    xW κ R H locs (h.2.1 - μ.1) (h.2.2.1 - μ.2.1) (xQ Z κ r h1 (h1.2.1 - μ.1) (h1.2.2.1 - μ.2.1)) (F0 κ.2.2.2.2.1 pc ls st)
def xSX (Z : XZ) (κ : XK) (μ : XU) (δ : XT) (pc : Nat) (ls : Array Slot) (st : List Value) (E : String) (q : Nat) (pr : XM) : Prop := ∀ (h : XH) (r : XO) (h1 : XH), pr h = some (r, h1) → xMono h h1 ∧
  ∀ (H : Heap) (locs : List Loc) (R : Room) (ce : Cell), xC Z κ δ → (κ.2.2.2.1.heap.size = μ.1 ∧ Z.2.1.heap.size ≤ κ.2.2.2.1.heap.size ∧ ∀ q : Nat, q < Z.2.1.heap.size → κ.2.2.2.1.heap[q]? = Z.2.1.heap[q]?) → xRel Z h H → (∀ z ∈ locs, xfree Z z.base) → μ.1 ≤ h.2.1 → μ.2.1 ≤ h.2.2.1 → R.frames = μ.2.2.1 → R.locals = μ.2.2.2 → h1.2.1 - μ.1 ≤ R.cells → h1.2.2.1 - μ.2.1 ≤ R.slots → H[q]? = some ce → ce.vm = .none → κ.2.2.2.1.vm.findClass E = some ce.cls →
    xWX κ R H locs (h.2.1 - μ.1) (h.2.2.1 - μ.2.1) (xQ Z κ r h1 (h1.2.1 - μ.1) (h1.2.2.1 - μ.2.1)) (F0 κ.2.2.2.2.1 pc ls st) q
/-- a contract: the method follows its program -/
def xMet (Z : XZ) (y : MethodName) (cc : ByteArray) (nL : Nat) (ret : Option FieldType) (fr lo : Nat) (av : List Value) (pr : XM) : Prop := ∀ (h : XH) (r : XO) (h1 : XH), pr h = some (r, h1) → xMono h h1 ∧
  (xG Z → vx_Met Z.2.2.2.2.1 y (ws_ y cc nL ret) { frames := fr, cells := h1.2.1 - h.2.1, slots := h1.2.2.1 - h.2.2.1, locals := lo } (xPc Z av h) (xQc Z r h1) (xXC Z r h1) (h1.2.1 - h.2.1) (h1.2.2.1 - h.2.2.1) (xfree Z))
def xMetW (Z : XZ) (y : MethodName) (cc : ByteArray) (nL : Nat) (ret : Option FieldType) (hh : List (Nat × Nat × Nat × Nat)) (fr lo : Nat) (av : List Value) (pr : XM) : Prop := ∀ (h : XH) (r : XO) (h1 : XH), pr h = some (r, h1) → xMono h h1 ∧
  (xG Z → vx_Met Z.2.2.2.2.1 y (wsW_ y cc nL ret hh) { frames := fr, cells := h1.2.1 - h.2.1, slots := h1.2.2.1 - h.2.2.1, locals := lo } (xPc Z av h) (xQc Z r h1) (xXC Z r h1) (h1.2.1 - h.2.1) (h1.2.2.1 - h.2.2.1) (xfree Z))
theorem xMono.rf (h : XH) : xMono h h := ⟨Nat.le_refl _, Nat.le_refl _⟩
theorem xMono.tr {a b c : XH} (h1 : xMono a b) (h2 : xMono b c) : xMono a c := ⟨Nat.le_trans h1.1 h2.1, Nat.le_trans h1.2 h2.2⟩
section XA
variable {Z : XZ} {κ : XK} {μ : XU} {δ : XT} {pc pc1 : Nat} {ls ls1 : Array Slot} {st st1 : List Value} {pr : XM}
theorem xS.fail : xS Z κ μ δ pc ls st xfail := fun h r h1 e => by cases e
theorem xS.pure (f : ∀ (R : Room) (H : Heap) (locs : List Loc) (cells slots : Nat) (Q : State → Prop), xC Z κ δ → xW κ R H locs cells slots Q (F0 κ.2.2.2.2.1 pc1 ls1 st1) → xW κ R H locs cells slots Q (F0 κ.2.2.2.2.1 pc ls st)) (k : xS Z κ μ δ pc1 ls1 st1 pr) : xS Z κ μ δ pc ls st pr := by
  intro h r h1 e
  obtain ⟨a, b⟩ := k h r h1 e
  exact ⟨a, fun H locs R C q1 q2 q3 q4 q5 q6 q7 q8 q9 => f _ _ _ _ _ _ C (b H locs R C q1 q2 q3 q4 q5 q6 q7 q8 q9)⟩
/-- entry of a method without handlers -/
theorem xMet.of {y : MethodName} {cc : ByteArray} {nL : Nat} {ret : Option FieldType} {fr lo : Nat} {av : List Value} (hy : plainFor y = true) (hn : (lg_sl av).length ≤ nL)
    (body : ∀ (κ : XK) (μ : XU) (ls : Array Slot), μ.2.2 = (fr, lo) → lv_has ls nL (lv_args 0 av) → xS Z κ μ (cc, nL, y.cls, (y.name, y.desc), ret, []) 0 ls [] pr) : xMet Z y cc nL ret fr lo av pr := by
  intro h r h1 e
  have hls := lv_entry av (n := nL) hn
  refine ⟨(body Z.2.2.2.2.2 (0, 0, fr, lo) _ rfl hls h r h1 e).1, fun G => ?_⟩
  refine vx_ofW (cc := cc) (maxL := nL) (ret := ret) hy rfl ?_
  intro p e9 s m args below meth c s₁ B hml ht hv
  obtain ⟨rfl, hW, hR⟩ := hv
  have hts := atoms_spec (ws := ws_ y cc nL ret) B.pre
  have hts : ∀ w ∈ lw_all, w.before _ s = true := fun w h => hts w (List.mem_cons_of_mem _ h)
  have hown : s.vm.findClass y.cls = some m.cls := findClass_of_methodNamed B.named
  have hname : meth.name = y.name := (name_of_methodNamed B.named B.method).1
  rw [lg_entry_eq]
  obtain ⟨-, b⟩ := body (p, Z.2.2.2.2.1, e9, s, m, av.toArray, below, meth, c) (h.2.1, h.2.2.1, fr, lo) _ rfl hls h r h1 e
  have hsz : s.heap.size = h.2.1 := hR.1
  have b := b s.heap [] { frames := fr, cells := h1.2.1 - h.2.1, slots := h1.2.2.1 - h.2.2.1, locals := lo } ⟨B.exec, B.bytes, hml, hown, hts, B.returns, B.notSynchronized, by
      show c.exceptionTable.toList = []
      exact List.eq_nil_iff_forall_not_mem.mpr (fun x hx => ht x hx), ⟨hname, B.named⟩, hW, rfl, G⟩ ⟨hsz, hR.2.1, hR.2.2.1⟩ hR (fun z hz => nomatch hz) (Nat.le_refl _) (Nat.le_refl _) rfl rfl (Nat.le_refl _) (Nat.le_refl _)
  rw [show ∀ k : Nat, k - (h.2.1, h.2.2.1, fr, lo).1 = k - h.2.1 from fun _ => rfl] at b
  rw [show ∀ k : Nat, k - (h.2.1, h.2.2.1, fr, lo).2.1 = k - h.2.2.1 from fun _ => rfl] at b
  rw [Nat.sub_self, Nat.sub_self] at b
  exact b
end XA
