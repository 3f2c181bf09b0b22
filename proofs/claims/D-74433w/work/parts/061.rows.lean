/-! one law an instruction, over xS (printed by gen/rows.py) -/
def jrem (x y : Int32) : Int32 := x - x / y * y
def jremL (x y : Int64) : Int64 := x - x / y * y
def jshl (x y : Int32) : Int32 := x <<< (y &&& 31)
def jshr (x y : Int32) : Int32 := x >>> (y &&& 31)
def jushr (x y : Int32) : Int32 := (x.toUInt32 >>> (y.toUInt32 &&& Int32.toUInt32 31)).toInt32
def jshlL (x : Int64) (y : Int32) : Int64 := x <<< (y.toInt64 &&& 63)
def jshrL (x : Int64) (y : Int32) : Int64 := x >>> (y.toInt64 &&& 63)
def jushrL (x : Int64) (y : Int32) : Int64 := (x.toUInt64 >>> (y.toInt64.toUInt64 &&& Int64.toUInt64 63)).toInt64
def j2b (x : Int32) : Int32 := x.toInt8.toInt32
def j2c (x : Int32) : Int32 := (x.toUInt32 % 65536).toInt32
theorem xcat_rf (r : Option Nat) : (va_rf r).category = 1 := by cases r <;> rfl
section XR
variable {Z : XZ} {κ : XK} {μ : XU} {δ : XT} {pc : Nat} {ls : Array Slot} {st : List Value} {pr pt pf : XM}
theorem xs_iadd {x y : Int32} (d : decode δ.1 pc = .ok (.iadd, 1)) (k : xS Z κ μ δ (pc + 1) ls (.int (x + y) :: st) pr) : xS Z κ μ δ pc ls (.int y :: .int x :: st) pr :=
  xS.pure (fun R H locs cells slots Q C k => lv_iadd C.1 C.2.1 d k) k
theorem xs_isub {x y : Int32} (d : decode δ.1 pc = .ok (.isub, 1)) (k : xS Z κ μ δ (pc + 1) ls (.int (x - y) :: st) pr) : xS Z κ μ δ pc ls (.int y :: .int x :: st) pr :=
  xS.pure (fun R H locs cells slots Q C k => lv_isub C.1 C.2.1 d k) k
theorem xs_imul {x y : Int32} (d : decode δ.1 pc = .ok (.imul, 1)) (k : xS Z κ μ δ (pc + 1) ls (.int (x * y) :: st) pr) : xS Z κ μ δ pc ls (.int y :: .int x :: st) pr :=
  xS.pure (fun R H locs cells slots Q C k => lv_imul C.1 C.2.1 d k) k
theorem xs_iand {x y : Int32} (d : decode δ.1 pc = .ok (.iand, 1)) (k : xS Z κ μ δ (pc + 1) ls (.int (x &&& y) :: st) pr) : xS Z κ μ δ pc ls (.int y :: .int x :: st) pr :=
  xS.pure (fun R H locs cells slots Q C k => lv_iand C.1 C.2.1 d k) k
theorem xs_ior {x y : Int32} (d : decode δ.1 pc = .ok (.ior, 1)) (k : xS Z κ μ δ (pc + 1) ls (.int (x ||| y) :: st) pr) : xS Z κ μ δ pc ls (.int y :: .int x :: st) pr :=
  xS.pure (fun R H locs cells slots Q C k => lv_ior C.1 C.2.1 d k) k
theorem xs_ixor {x y : Int32} (d : decode δ.1 pc = .ok (.ixor, 1)) (k : xS Z κ μ δ (pc + 1) ls (.int (x ^^^ y) :: st) pr) : xS Z κ μ δ pc ls (.int y :: .int x :: st) pr :=
  xS.pure (fun R H locs cells slots Q C k => lv_ixor C.1 C.2.1 d k) k
theorem xs_ishl {x y : Int32} (d : decode δ.1 pc = .ok (.ishl, 1)) (k : xS Z κ μ δ (pc + 1) ls (.int (jshl x y) :: st) pr) : xS Z κ μ δ pc ls (.int y :: .int x :: st) pr :=
  xS.pure (fun R H locs cells slots Q C k => lv_ishl C.1 C.2.1 d k) k
theorem xs_ishr {x y : Int32} (d : decode δ.1 pc = .ok (.ishr, 1)) (k : xS Z κ μ δ (pc + 1) ls (.int (jshr x y) :: st) pr) : xS Z κ μ δ pc ls (.int y :: .int x :: st) pr :=
  xS.pure (fun R H locs cells slots Q C k => lv_ishr C.1 C.2.1 d k) k
theorem xs_iushr {x y : Int32} (d : decode δ.1 pc = .ok (.iushr, 1)) (k : xS Z κ μ δ (pc + 1) ls (.int (jushr x y) :: st) pr) : xS Z κ μ δ pc ls (.int y :: .int x :: st) pr :=
  xS.pure (fun R H locs cells slots Q C k => lv_iushr C.1 C.2.1 d rfl k) k
theorem xs_ineg {x : Int32} (d : decode δ.1 pc = .ok (.ineg, 1)) (k : xS Z κ μ δ (pc + 1) ls (.int (-x) :: st) pr) : xS Z κ μ δ pc ls (.int x :: st) pr :=
  xS.pure (fun R H locs cells slots Q C k => lv_ineg C.1 C.2.1 d k) k
theorem xs_ladd {x y : Int64} (d : decode δ.1 pc = .ok (.ladd, 1)) (k : xS Z κ μ δ (pc + 1) ls (.long (x + y) :: st) pr) : xS Z κ μ δ pc ls (.long y :: .long x :: st) pr :=
  xS.pure (fun R H locs cells slots Q C k => lv_ladd C.1 C.2.1 d k) k
theorem xs_lsub {x y : Int64} (d : decode δ.1 pc = .ok (.lsub, 1)) (k : xS Z κ μ δ (pc + 1) ls (.long (x - y) :: st) pr) : xS Z κ μ δ pc ls (.long y :: .long x :: st) pr :=
  xS.pure (fun R H locs cells slots Q C k => lv_lsub C.1 C.2.1 d k) k
theorem xs_lmul {x y : Int64} (d : decode δ.1 pc = .ok (.lmul, 1)) (k : xS Z κ μ δ (pc + 1) ls (.long (x * y) :: st) pr) : xS Z κ μ δ pc ls (.long y :: .long x :: st) pr :=
  xS.pure (fun R H locs cells slots Q C k => lv_lmul C.1 C.2.1 d k) k
theorem xs_land {x y : Int64} (d : decode δ.1 pc = .ok (.land, 1)) (k : xS Z κ μ δ (pc + 1) ls (.long (x &&& y) :: st) pr) : xS Z κ μ δ pc ls (.long y :: .long x :: st) pr :=
  xS.pure (fun R H locs cells slots Q C k => lv_land C.1 C.2.1 d k) k
theorem xs_lor {x y : Int64} (d : decode δ.1 pc = .ok (.lor, 1)) (k : xS Z κ μ δ (pc + 1) ls (.long (x ||| y) :: st) pr) : xS Z κ μ δ pc ls (.long y :: .long x :: st) pr :=
  xS.pure (fun R H locs cells slots Q C k => lv_lor C.1 C.2.1 d k) k
theorem xs_lxor {x y : Int64} (d : decode δ.1 pc = .ok (.lxor, 1)) (k : xS Z κ μ δ (pc + 1) ls (.long (x ^^^ y) :: st) pr) : xS Z κ μ δ pc ls (.long y :: .long x :: st) pr :=
  xS.pure (fun R H locs cells slots Q C k => lv_lxor C.1 C.2.1 d k) k
theorem xs_lneg {x : Int64} (d : decode δ.1 pc = .ok (.lneg, 1)) (k : xS Z κ μ δ (pc + 1) ls (.long (-x) :: st) pr) : xS Z κ μ δ pc ls (.long x :: st) pr :=
  xS.pure (fun R H locs cells slots Q C k => lv_lneg C.1 C.2.1 d k) k
theorem xs_lshl {x : Int64} {y : Int32} (d : decode δ.1 pc = .ok (.lshl, 1)) (k : xS Z κ μ δ (pc + 1) ls (.long (jshlL x y) :: st) pr) : xS Z κ μ δ pc ls (.int y :: .long x :: st) pr :=
  xS.pure (fun R H locs cells slots Q C k => lv_lshl C.1 C.2.1 d rfl k) k
theorem xs_lshr {x : Int64} {y : Int32} (d : decode δ.1 pc = .ok (.lshr, 1)) (k : xS Z κ μ δ (pc + 1) ls (.long (jshrL x y) :: st) pr) : xS Z κ μ δ pc ls (.int y :: .long x :: st) pr :=
  xS.pure (fun R H locs cells slots Q C k => lv_lshr C.1 C.2.1 d rfl k) k
theorem xs_lushr {x : Int64} {y : Int32} (d : decode δ.1 pc = .ok (.lushr, 1)) (k : xS Z κ μ δ (pc + 1) ls (.long (jushrL x y) :: st) pr) : xS Z κ μ δ pc ls (.int y :: .long x :: st) pr :=
  xS.pure (fun R H locs cells slots Q C k => lv_lushr C.1 C.2.1 d rfl k) k
theorem xs_lcmp {x y : Int64} (d : decode δ.1 pc = .ok (.lcmp, 1)) (k : xS Z κ μ δ (pc + 1) ls (.int (lg_cmp x y) :: st) pr) : xS Z κ μ δ pc ls (.long y :: .long x :: st) pr :=
  xS.pure (fun R H locs cells slots Q C k => W.lcmp C.1 C.2.1 d k) k
theorem xs_i2l {x : Int32} (d : decode δ.1 pc = .ok (.i2l, 1)) (k : xS Z κ μ δ (pc + 1) ls (.long x.toInt64 :: st) pr) : xS Z κ μ δ pc ls (.int x :: st) pr :=
  xS.pure (fun R H locs cells slots Q C k => lv_i2l C.1 C.2.1 d rfl k) k
theorem xs_l2i {x : Int64} (d : decode δ.1 pc = .ok (.l2i, 1)) (k : xS Z κ μ δ (pc + 1) ls (.int x.toInt32 :: st) pr) : xS Z κ μ δ pc ls (.long x :: st) pr :=
  xS.pure (fun R H locs cells slots Q C k => lv_l2i C.1 C.2.1 d rfl k) k
theorem xs_i2b {x : Int32} (d : decode δ.1 pc = .ok (.i2b, 1)) (k : xS Z κ μ δ (pc + 1) ls (.int (j2b x) :: st) pr) : xS Z κ μ δ pc ls (.int x :: st) pr :=
  xS.pure (fun R H locs cells slots Q C k => lv_i2b C.1 C.2.1 d rfl k) k
theorem xs_i2c {x : Int32} (d : decode δ.1 pc = .ok (.i2c, 1)) (k : xS Z κ μ δ (pc + 1) ls (.int (j2c x) :: st) pr) : xS Z κ μ δ pc ls (.int x :: st) pr :=
  xS.pure (fun R H locs cells slots Q C k => lv_i2c C.1 C.2.1 d rfl k) k
theorem xs_iconst {n : Int} {v : Int32} (d : decode δ.1 pc = .ok (.iconst n, 1)) (hv : Int32.ofInt n = v) (k : xS Z κ μ δ (pc + 1) ls (.int v :: st) pr) : xS Z κ μ δ pc ls (st) pr :=
  xS.pure (fun R H locs cells slots Q C k => lv_iconst C.1 C.2.1 d hv k) k
theorem xs_bipush {n : Int} {v : Int32} (d : decode δ.1 pc = .ok (.bipush n, 2)) (hv : (Int8.ofInt n).toInt32 = v) (k : xS Z κ μ δ (pc + 2) ls (.int v :: st) pr) : xS Z κ μ δ pc ls (st) pr :=
  xS.pure (fun R H locs cells slots Q C k => lv_bipush C.1 C.2.1 d hv k) k
theorem xs_sipush {n : Int} {v : Int32} (d : decode δ.1 pc = .ok (.sipush n, 3)) (hv : (Int16.ofInt n).toInt32 = v) (k : xS Z κ μ δ (pc + 3) ls (.int v :: st) pr) : xS Z κ μ δ pc ls (st) pr :=
  xS.pure (fun R H locs cells slots Q C k => lv_sipush C.1 C.2.1 d hv k) k
theorem xs_lconst {n : Fin 2} {v : Int64} (d : decode δ.1 pc = .ok (.lconst n, 1)) (hv : Int64.ofNat (n : Nat) = v) (k : xS Z κ μ δ (pc + 1) ls (.long v :: st) pr) : xS Z κ μ δ pc ls (st) pr :=
  xS.pure (fun R H locs cells slots Q C k => lv_lconst C.1 C.2.1 d hv k) k
theorem xs_null  (d : decode δ.1 pc = .ok (.aconst_null, 1)) (k : xS Z κ μ δ (pc + 1) ls (va_rf none :: st) pr) : xS Z κ μ δ pc ls (st) pr :=
  xS.pure (fun R H locs cells slots Q C k => lv_null C.1 C.2.1 d k) k
theorem xs_dup {va : Value} (d : decode δ.1 pc = .ok (.dup, 1)) (hva : va.category = 1) (k : xS Z κ μ δ (pc + 1) ls (va :: va :: st) pr) : xS Z κ μ δ pc ls (va :: st) pr :=
  xS.pure (fun R H locs cells slots Q C k => lv_dup C.1 C.2.1 d hva k) k
theorem xs_pop {va : Value} (d : decode δ.1 pc = .ok (.pop, 1)) (hva : va.category = 1) (k : xS Z κ μ δ (pc + 1) ls (st) pr) : xS Z κ μ δ pc ls (va :: st) pr :=
  xS.pure (fun R H locs cells slots Q C k => lv_pop C.1 C.2.1 d hva k) k
theorem xs_dup_x1 {va vb : Value} (d : decode δ.1 pc = .ok (.dup_x1, 1)) (hva : va.category = 1) (hvb : vb.category = 1) (k : xS Z κ μ δ (pc + 1) ls (va :: vb :: va :: st) pr) : xS Z κ μ δ pc ls (va :: vb :: st) pr :=
  xS.pure (fun R H locs cells slots Q C k => lv_dup_x1 C.1 C.2.1 d hva hvb k) k
theorem xs_dup2_11 {va vb : Value} (d : decode δ.1 pc = .ok (.dup2, 1)) (hva : va.category = 1) (hvb : vb.category = 1) (k : xS Z κ μ δ (pc + 1) ls (va :: vb :: va :: vb :: st) pr) : xS Z κ μ δ pc ls (va :: vb :: st) pr :=
  xS.pure (fun R H locs cells slots Q C k => lv_dup2_11 C.1 C.2.1 d hva hvb k) k
theorem xs_dup2_2 {va : Value} (d : decode δ.1 pc = .ok (.dup2, 1)) (hva : va.category = 2) (k : xS Z κ μ δ (pc + 1) ls (va :: va :: st) pr) : xS Z κ μ δ pc ls (va :: st) pr :=
  xS.pure (fun R H locs cells slots Q C k => lv_dup2_2 C.1 C.2.1 d hva k) k
theorem xs_idiv {x y : Int32} (d : decode δ.1 pc = .ok (.idiv, 1)) (k : xS Z κ μ δ (pc + 1) ls (.int (x / y) :: st) pr) : xS Z κ μ δ pc ls (.int y :: .int x :: st) (xnz y pr) := by
  unfold xnz
  split
  · exact xS.fail
  · rename_i hne
    exact xS.pure (fun R H locs cells slots Q C k => lv_idiv C.1 C.2.1 d hne k) k
theorem xs_irem {x y : Int32} (d : decode δ.1 pc = .ok (.irem, 1)) (k : xS Z κ μ δ (pc + 1) ls (.int (jrem x y) :: st) pr) : xS Z κ μ δ pc ls (.int y :: .int x :: st) (xnz y pr) := by
  unfold xnz
  split
  · exact xS.fail
  · rename_i hne
    exact xS.pure (fun R H locs cells slots Q C k => lv_irem C.1 C.2.1 d hne k) k
theorem xs_ldiv {x y : Int64} (d : decode δ.1 pc = .ok (.ldiv, 1)) (k : xS Z κ μ δ (pc + 1) ls (.long (x / y) :: st) pr) : xS Z κ μ δ pc ls (.long y :: .long x :: st) (xnzL y pr) := by
  unfold xnzL
  split
  · exact xS.fail
  · rename_i hne
    exact xS.pure (fun R H locs cells slots Q C k => lv_ldiv C.1 C.2.1 d hne k) k
theorem xs_lrem {x y : Int64} (d : decode δ.1 pc = .ok (.lrem, 1)) (k : xS Z κ μ δ (pc + 1) ls (.long (jremL x y) :: st) pr) : xS Z κ μ δ pc ls (.long y :: .long x :: st) (xnzL y pr) := by
  unfold xnzL
  split
  · exact xS.fail
  · rename_i hne
    exact xS.pure (fun R H locs cells slots Q C k => lv_lrem C.1 C.2.1 d hne k) k
theorem xs_iload_n {i : Fin 4} {nL : Nat} {lv : List (Nat × Value)} {x : Int32} (d : decode δ.1 pc = .ok (.iload_n i, 1)) (hl : lv_has ls nL lv) (j : Nat) (hj : lv[j]? = some (i.val, .int x)) (k : xS Z κ μ δ (pc + 1) ls (.int x :: st) pr) : xS Z κ μ δ pc ls st pr :=
  xS.pure (fun R H locs cells slots Q C k => lv_iload_n C.1 C.2.1 d rfl (lv_at hl j hj) k) k
theorem xs_iload {i nL : Nat} {lv : List (Nat × Value)} {x : Int32} (d : decode δ.1 pc = .ok (.iload i, 2)) (hl : lv_has ls nL lv) (j : Nat) (hj : lv[j]? = some (i, .int x)) (k : xS Z κ μ δ (pc + 2) ls (.int x :: st) pr) : xS Z κ μ δ pc ls st pr :=
  xS.pure (fun R H locs cells slots Q C k => lv_iload C.1 C.2.1 d (lv_at hl j hj) k) k
theorem xs_lload_n {i : Fin 4} {nL : Nat} {lv : List (Nat × Value)} {x : Int64} (d : decode δ.1 pc = .ok (.lload_n i, 1)) (hl : lv_has ls nL lv) (j : Nat) (hj : lv[j]? = some (i.val, .long x)) (k : xS Z κ μ δ (pc + 1) ls (.long x :: st) pr) : xS Z κ μ δ pc ls st pr :=
  xS.pure (fun R H locs cells slots Q C k => lv_lload_n C.1 C.2.1 d rfl (lv_at hl j hj) k) k
theorem xs_lload {i nL : Nat} {lv : List (Nat × Value)} {x : Int64} (d : decode δ.1 pc = .ok (.lload i, 2)) (hl : lv_has ls nL lv) (j : Nat) (hj : lv[j]? = some (i, .long x)) (k : xS Z κ μ δ (pc + 2) ls (.long x :: st) pr) : xS Z κ μ δ pc ls st pr :=
  xS.pure (fun R H locs cells slots Q C k => lv_lload C.1 C.2.1 d (lv_at hl j hj) k) k
theorem xs_aload_n {i : Fin 4} {nL : Nat} {lv : List (Nat × Value)} {x : Option Nat} (d : decode δ.1 pc = .ok (.aload_n i, 1)) (hl : lv_has ls nL lv) (j : Nat) (hj : lv[j]? = some (i.val, va_rf x)) (k : xS Z κ μ δ (pc + 1) ls (va_rf x :: st) pr) : xS Z κ μ δ pc ls st pr := by
  cases x with
  | none => exact xS.pure (fun R H locs cells slots Q C k => lv_aload_nN C.1 C.2.1 d rfl (lv_at hl j hj) k) k
  | some a => exact xS.pure (fun R H locs cells slots Q C k => lv_aload_n C.1 C.2.1 d rfl (lv_at hl j hj) k) k
theorem xs_aload {i nL : Nat} {lv : List (Nat × Value)} {x : Option Nat} (d : decode δ.1 pc = .ok (.aload i, 2)) (hl : lv_has ls nL lv) (j : Nat) (hj : lv[j]? = some (i, va_rf x)) (k : xS Z κ μ δ (pc + 2) ls (va_rf x :: st) pr) : xS Z κ μ δ pc ls st pr := by
  cases x with
  | none => exact xS.pure (fun R H locs cells slots Q C k => lv_aloadN C.1 C.2.1 d (lv_at hl j hj) k) k
  | some a => exact xS.pure (fun R H locs cells slots Q C k => lv_aload C.1 C.2.1 d (lv_at hl j hj) k) k
theorem xS.pureL {pc1 : Nat} {st1 : List Value} {L : Array Slot → Prop} (f : ∀ (R : Room) (H : Heap) (locs : List Loc) (cells slots : Nat) (Q : State → Prop), xC Z κ δ → (∀ ls1, L ls1 → xW κ R H locs cells slots Q (F0 κ.2.2.2.2.1 pc1 ls1 st1)) → xW κ R H locs cells slots Q (F0 κ.2.2.2.2.1 pc ls st)) {lw : Array Slot} (hw : L lw) (k : ∀ ls1, L ls1 → xS Z κ μ δ pc1 ls1 st1 pr) : xS Z κ μ δ pc ls st pr := by
  intro h r h1 e
  refine ⟨(k lw hw h r h1 e).1, fun H locs R C q1 q2 q3 q4 q5 q6 q7 q8 q9 => f _ _ _ _ _ _ C (fun ls1 h1 => (k ls1 h1 h r _ e).2 H locs R C q1 q2 q3 q4 q5 q6 q7 q8 q9)⟩
/-- some array of slots holds any list of values that one holds, one set anew -/
theorem lv_ex1 {nL i : Nat} {lv lv' : List (Nat × Value)} {v : Value} (hl : lv_has ls nL lv) (hn : i < nL) (hv : v.category = 1) (e : (i, v) :: lv.filter (fun q => !(q.1 == i) && !(q.1 + 1 == i && q.2.category == 2)) = lv') : ∃ lw, lv_has lw nL lv' := by
  obtain ⟨lw, -, h⟩ := lv_store1 (v := v) hl hn hv
  exact ⟨lw, by rw [← e]; exact h⟩
theorem lv_ex2 {nL i : Nat} {lv lv' : List (Nat × Value)} {v : Value} (hl : lv_has ls nL lv) (hn : i + 1 < nL) (hv : v.category = 2) (e : (i, v) :: lv.filter (fun q => !(q.1 == i) && (!(q.1 == i + 1) && !(q.1 + 1 == i && q.2.category == 2))) = lv') : ∃ lw, lv_has lw nL lv' := by
  obtain ⟨lw, -, h⟩ := lv_store2 (v := v) hl hn hv
  exact ⟨lw, by rw [← e]; exact h⟩
theorem xs_istore_n {i : Fin 4} {nL : Nat} {lv : List (Nat × Value)} {lv' : Int32 → List (Nat × Value)} {x : Int32} {kk : Int32 → XM} (d : decode δ.1 pc = .ok (.istore_n i, 1)) (hl : lv_has ls nL lv) (hn : i.val < nL) (e : ∀ y : Int32, (i.val, Value.int y) :: lv.filter (fun q => !(q.1 == i.val) && !(q.1 + 1 == i.val && q.2.category == 2)) = lv' y) (k : ∀ (y : Int32) (ls1 : Array Slot), lv_has ls1 nL (lv' y) → xS Z κ μ δ (pc + 1) ls1 st (kk y)) : xS Z κ μ δ pc ls (.int x :: st) (xlet x kk) := by
  obtain ⟨lw, hw⟩ := lv_ex1 hl hn rfl (e x)
  exact xS.pureL (L := fun ls1 => lv_has ls1 nL (lv' x)) (fun R H locs cells slots Q C k => lv_istore_n C.1 C.2.1 d rfl hl hn (e x) k) hw (k x)
theorem xs_istore {i nL : Nat} {lv : List (Nat × Value)} {lv' : Int32 → List (Nat × Value)} {x : Int32} {kk : Int32 → XM} (d : decode δ.1 pc = .ok (.istore i, 2)) (hl : lv_has ls nL lv) (hn : i < nL) (e : ∀ y : Int32, (i, Value.int y) :: lv.filter (fun q => !(q.1 == i) && !(q.1 + 1 == i && q.2.category == 2)) = lv' y) (k : ∀ (y : Int32) (ls1 : Array Slot), lv_has ls1 nL (lv' y) → xS Z κ μ δ (pc + 2) ls1 st (kk y)) : xS Z κ μ δ pc ls (.int x :: st) (xlet x kk) := by
  obtain ⟨lw, hw⟩ := lv_ex1 hl hn rfl (e x)
  exact xS.pureL (L := fun ls1 => lv_has ls1 nL (lv' x)) (fun R H locs cells slots Q C k => lv_istore C.1 C.2.1 d hl hn (e x) k) hw (k x)
theorem xs_lstore_n {i : Fin 4} {nL : Nat} {lv : List (Nat × Value)} {lv' : Int64 → List (Nat × Value)} {x : Int64} {kk : Int64 → XM} (d : decode δ.1 pc = .ok (.lstore_n i, 1)) (hl : lv_has ls nL lv) (hn : i.val + 1 < nL) (e : ∀ y : Int64, (i.val, Value.long y) :: lv.filter (fun q => !(q.1 == i.val) && (!(q.1 == i.val + 1) && !(q.1 + 1 == i.val && q.2.category == 2))) = lv' y) (k : ∀ (y : Int64) (ls1 : Array Slot), lv_has ls1 nL (lv' y) → xS Z κ μ δ (pc + 1) ls1 st (kk y)) : xS Z κ μ δ pc ls (.long x :: st) (xlet x kk) := by
  obtain ⟨lw, hw⟩ := lv_ex2 hl hn rfl (e x)
  exact xS.pureL (L := fun ls1 => lv_has ls1 nL (lv' x)) (fun R H locs cells slots Q C k => lv_lstore_n C.1 C.2.1 d rfl hl hn (e x) k) hw (k x)
theorem xs_lstore {i nL : Nat} {lv : List (Nat × Value)} {lv' : Int64 → List (Nat × Value)} {x : Int64} {kk : Int64 → XM} (d : decode δ.1 pc = .ok (.lstore i, 2)) (hl : lv_has ls nL lv) (hn : i + 1 < nL) (e : ∀ y : Int64, (i, Value.long y) :: lv.filter (fun q => !(q.1 == i) && (!(q.1 == i + 1) && !(q.1 + 1 == i && q.2.category == 2))) = lv' y) (k : ∀ (y : Int64) (ls1 : Array Slot), lv_has ls1 nL (lv' y) → xS Z κ μ δ (pc + 2) ls1 st (kk y)) : xS Z κ μ δ pc ls (.long x :: st) (xlet x kk) := by
  obtain ⟨lw, hw⟩ := lv_ex2 hl hn rfl (e x)
  exact xS.pureL (L := fun ls1 => lv_has ls1 nL (lv' x)) (fun R H locs cells slots Q C k => lv_lstore C.1 C.2.1 d hl hn (e x) k) hw (k x)
theorem xs_astore_n {i : Fin 4} {nL : Nat} {lv : List (Nat × Value)} {lv' : Option Nat → List (Nat × Value)} {x : Option Nat} {kk : Option Nat → XM} (d : decode δ.1 pc = .ok (.astore_n i, 1)) (hl : lv_has ls nL lv) (hn : i.val < nL) (e : ∀ y : Option Nat, (i.val, va_rf y) :: lv.filter (fun q => !(q.1 == i.val) && !(q.1 + 1 == i.val && q.2.category == 2)) = lv' y) (k : ∀ (y : Option Nat) (ls1 : Array Slot), lv_has ls1 nL (lv' y) → xS Z κ μ δ (pc + 1) ls1 st (kk y)) : xS Z κ μ δ pc ls (va_rf x :: st) (xlet x kk) := by
  obtain ⟨lw, hw⟩ := lv_ex1 hl hn (xcat_rf x) (e x)
  cases x with
  | none => exact xS.pureL (L := fun ls1 => lv_has ls1 nL (lv' none)) (fun R H locs cells slots Q C k => lv_astore_nN C.1 C.2.1 d rfl hl hn (e none) k) hw (k none)
  | some a => exact xS.pureL (L := fun ls1 => lv_has ls1 nL (lv' (some a))) (fun R H locs cells slots Q C k => lv_astore_n C.1 C.2.1 d rfl hl hn (e (some a)) k) hw (k (some a))
theorem xs_astore {i nL : Nat} {lv : List (Nat × Value)} {lv' : Option Nat → List (Nat × Value)} {x : Option Nat} {kk : Option Nat → XM} (d : decode δ.1 pc = .ok (.astore i, 2)) (hl : lv_has ls nL lv) (hn : i < nL) (e : ∀ y : Option Nat, (i, va_rf y) :: lv.filter (fun q => !(q.1 == i) && !(q.1 + 1 == i && q.2.category == 2)) = lv' y) (k : ∀ (y : Option Nat) (ls1 : Array Slot), lv_has ls1 nL (lv' y) → xS Z κ μ δ (pc + 2) ls1 st (kk y)) : xS Z κ μ δ pc ls (va_rf x :: st) (xlet x kk) := by
  obtain ⟨lw, hw⟩ := lv_ex1 hl hn (xcat_rf x) (e x)
  cases x with
  | none => exact xS.pureL (L := fun ls1 => lv_has ls1 nL (lv' none)) (fun R H locs cells slots Q C k => lv_astoreN C.1 C.2.1 d hl hn (e none) k) hw (k none)
  | some a => exact xS.pureL (L := fun ls1 => lv_has ls1 nL (lv' (some a))) (fun R H locs cells slots Q C k => lv_astore C.1 C.2.1 d hl hn (e (some a)) k) hw (k (some a))
theorem xs_iinc {i nL j : Nat} {n : Int} {lv : List (Nat × Value)} {lv' : Int32 → List (Nat × Value)} {x v : Int32} {kk : Int32 → XM} (d : decode δ.1 pc = .ok (.iinc i n, 3)) (hl : lv_has ls nL lv) (hj : lv[j]? = some (i, .int x)) (hv : Int32.ofInt n = v) (hn : i < nL) (e : ∀ y : Int32, (i, Value.int y) :: lv.filter (fun q => !(q.1 == i) && !(q.1 + 1 == i && q.2.category == 2)) = lv' y) (k : ∀ (y : Int32) (ls1 : Array Slot), lv_has ls1 nL (lv' y) → xS Z κ μ δ (pc + 3) ls1 st (kk y)) : xS Z κ μ δ pc ls st (xlet (x + v) kk) := by
  subst hv
  obtain ⟨lw, hw⟩ := lv_ex1 hl hn rfl (e (x + Int32.ofInt n))
  exact xS.pureL (L := fun ls1 => lv_has ls1 nL (lv' (x + Int32.ofInt n))) (fun R H locs cells slots Q C k => lv_iinc C.1 C.2.1 d hl hj rfl hn (e _) k) hw (k _)
theorem xS.br {c : Prop} [Decidable c] {pt1 pf1 : Nat} {st1 : List Value} (f : ∀ (R : Room) (H : Heap) (locs : List Loc) (cells slots : Nat) (Q : State → Prop), xC Z κ δ → (c → xW κ R H locs cells slots Q (F0 κ.2.2.2.2.1 pt1 ls st1)) → (¬ c → xW κ R H locs cells slots Q (F0 κ.2.2.2.2.1 pf1 ls st1)) → xW κ R H locs cells slots Q (F0 κ.2.2.2.2.1 pc ls st)) (kt : xS Z κ μ δ pt1 ls st1 pt) (kf : xS Z κ μ δ pf1 ls st1 pf) : xS Z κ μ δ pc ls st (if c then pt else pf) := by
  by_cases hc : c
  · rw [if_pos hc]
    exact xS.pure (fun R H locs cells slots Q C k => f R H locs cells slots Q C (fun _ => k) (fun h => absurd hc h)) kt
  · rw [if_neg hc]
    exact xS.pure (fun R H locs cells slots Q C k => f R H locs cells slots Q C (fun h => absurd h hc) (fun _ => k)) kf
theorem xs_icmp_eq {x y : Int32} {off : Int} {tgt : Nat} (d : decode δ.1 pc = .ok (.if_icmp .eq off, 3)) (ht : (pc : Int) + off = (tgt : Int)) (kt : xS Z κ μ δ tgt ls st pt) (kf : xS Z κ μ δ (pc + 3) ls st pf) : xS Z κ μ δ pc ls (.int y :: .int x :: st) (if x = y then pt else pf) :=
  xS.br (fun R H locs cells slots Q C k1 k2 => lv_icmp_eq C.1 C.2.1 d ht k1 k2) kt kf
theorem xs_if_eq {x : Int32} {off : Int} {tgt : Nat} (d : decode δ.1 pc = .ok (.ifCond .eq off, 3)) (ht : (pc : Int) + off = (tgt : Int)) (kt : xS Z κ μ δ tgt ls st pt) (kf : xS Z κ μ δ (pc + 3) ls st pf) : xS Z κ μ δ pc ls (.int x :: st) (if x = 0 then pt else pf) :=
  xS.br (fun R H locs cells slots Q C k1 k2 => lv_if_eq C.1 C.2.1 d ht k1 k2) kt kf
theorem xs_icmp_ne {x y : Int32} {off : Int} {tgt : Nat} (d : decode δ.1 pc = .ok (.if_icmp .ne off, 3)) (ht : (pc : Int) + off = (tgt : Int)) (kt : xS Z κ μ δ tgt ls st pt) (kf : xS Z κ μ δ (pc + 3) ls st pf) : xS Z κ μ δ pc ls (.int y :: .int x :: st) (if x = y then pf else pt) :=
  xS.br (fun R H locs cells slots Q C k1 k2 => lv_icmp_ne C.1 C.2.1 d ht k2 k1) kf kt
theorem xs_if_ne {x : Int32} {off : Int} {tgt : Nat} (d : decode δ.1 pc = .ok (.ifCond .ne off, 3)) (ht : (pc : Int) + off = (tgt : Int)) (kt : xS Z κ μ δ tgt ls st pt) (kf : xS Z κ μ δ (pc + 3) ls st pf) : xS Z κ μ δ pc ls (.int x :: st) (if x = 0 then pf else pt) :=
  xS.br (fun R H locs cells slots Q C k1 k2 => lv_if_ne C.1 C.2.1 d ht k2 k1) kf kt
theorem xs_icmp_lt {x y : Int32} {off : Int} {tgt : Nat} (d : decode δ.1 pc = .ok (.if_icmp .lt off, 3)) (ht : (pc : Int) + off = (tgt : Int)) (kt : xS Z κ μ δ tgt ls st pt) (kf : xS Z κ μ δ (pc + 3) ls st pf) : xS Z κ μ δ pc ls (.int y :: .int x :: st) (if x < y then pt else pf) :=
  xS.br (fun R H locs cells slots Q C k1 k2 => lv_icmp_lt C.1 C.2.1 d ht k1 k2) kt kf
theorem xs_if_lt {x : Int32} {off : Int} {tgt : Nat} (d : decode δ.1 pc = .ok (.ifCond .lt off, 3)) (ht : (pc : Int) + off = (tgt : Int)) (kt : xS Z κ μ δ tgt ls st pt) (kf : xS Z κ μ δ (pc + 3) ls st pf) : xS Z κ μ δ pc ls (.int x :: st) (if x < 0 then pt else pf) :=
  xS.br (fun R H locs cells slots Q C k1 k2 => lv_if_lt C.1 C.2.1 d ht k1 k2) kt kf
theorem xs_icmp_ge {x y : Int32} {off : Int} {tgt : Nat} (d : decode δ.1 pc = .ok (.if_icmp .ge off, 3)) (ht : (pc : Int) + off = (tgt : Int)) (kt : xS Z κ μ δ tgt ls st pt) (kf : xS Z κ μ δ (pc + 3) ls st pf) : xS Z κ μ δ pc ls (.int y :: .int x :: st) (if y ≤ x then pt else pf) :=
  xS.br (fun R H locs cells slots Q C k1 k2 => lv_icmp_ge C.1 C.2.1 d ht k1 k2) kt kf
theorem xs_if_ge {x : Int32} {off : Int} {tgt : Nat} (d : decode δ.1 pc = .ok (.ifCond .ge off, 3)) (ht : (pc : Int) + off = (tgt : Int)) (kt : xS Z κ μ δ tgt ls st pt) (kf : xS Z κ μ δ (pc + 3) ls st pf) : xS Z κ μ δ pc ls (.int x :: st) (if 0 ≤ x then pt else pf) :=
  xS.br (fun R H locs cells slots Q C k1 k2 => lv_if_ge C.1 C.2.1 d ht k1 k2) kt kf
theorem xs_icmp_gt {x y : Int32} {off : Int} {tgt : Nat} (d : decode δ.1 pc = .ok (.if_icmp .gt off, 3)) (ht : (pc : Int) + off = (tgt : Int)) (kt : xS Z κ μ δ tgt ls st pt) (kf : xS Z κ μ δ (pc + 3) ls st pf) : xS Z κ μ δ pc ls (.int y :: .int x :: st) (if y < x then pt else pf) :=
  xS.br (fun R H locs cells slots Q C k1 k2 => lv_icmp_gt C.1 C.2.1 d ht k1 k2) kt kf
theorem xs_if_gt {x : Int32} {off : Int} {tgt : Nat} (d : decode δ.1 pc = .ok (.ifCond .gt off, 3)) (ht : (pc : Int) + off = (tgt : Int)) (kt : xS Z κ μ δ tgt ls st pt) (kf : xS Z κ μ δ (pc + 3) ls st pf) : xS Z κ μ δ pc ls (.int x :: st) (if 0 < x then pt else pf) :=
  xS.br (fun R H locs cells slots Q C k1 k2 => lv_if_gt C.1 C.2.1 d ht k1 k2) kt kf
theorem xs_icmp_le {x y : Int32} {off : Int} {tgt : Nat} (d : decode δ.1 pc = .ok (.if_icmp .le off, 3)) (ht : (pc : Int) + off = (tgt : Int)) (kt : xS Z κ μ δ tgt ls st pt) (kf : xS Z κ μ δ (pc + 3) ls st pf) : xS Z κ μ δ pc ls (.int y :: .int x :: st) (if x ≤ y then pt else pf) :=
  xS.br (fun R H locs cells slots Q C k1 k2 => lv_icmp_le C.1 C.2.1 d ht k1 k2) kt kf
theorem xs_if_le {x : Int32} {off : Int} {tgt : Nat} (d : decode δ.1 pc = .ok (.ifCond .le off, 3)) (ht : (pc : Int) + off = (tgt : Int)) (kt : xS Z κ μ δ tgt ls st pt) (kf : xS Z κ μ δ (pc + 3) ls st pf) : xS Z κ μ δ pc ls (.int x :: st) (if x ≤ 0 then pt else pf) :=
  xS.br (fun R H locs cells slots Q C k1 k2 => lv_if_le C.1 C.2.1 d ht k1 k2) kt kf
theorem xs_goto {off : Int} {tgt : Nat} (d : decode δ.1 pc = .ok (.goto off, 3)) (ht : (pc : Int) + off = (tgt : Int)) (k : xS Z κ μ δ tgt ls st pr) : xS Z κ μ δ pc ls st pr :=
  xS.pure (fun R H locs cells slots Q C k => lv_goto C.1 C.2.1 d ht k) k
theorem xs_acmp_eq {rx ry : Option Nat} {off : Int} {tgt : Nat} (d : decode δ.1 pc = .ok (.if_acmp .eq off, 3)) (ht : (pc : Int) + off = (tgt : Int)) (kt : xS Z κ μ δ tgt ls st pt) (kf : xS Z κ μ δ (pc + 3) ls st pf) : xS Z κ μ δ pc ls (va_rf ry :: va_rf rx :: st) (if rx = ry then pt else pf) :=
  xS.br (fun R H locs cells slots Q C k1 k2 => lv_acmp_eq C.1 C.2.1 d ht k1 k2) kt kf
theorem xs_acmp_ne {rx ry : Option Nat} {off : Int} {tgt : Nat} (d : decode δ.1 pc = .ok (.if_acmp .ne off, 3)) (ht : (pc : Int) + off = (tgt : Int)) (kt : xS Z κ μ δ tgt ls st pt) (kf : xS Z κ μ δ (pc + 3) ls st pf) : xS Z κ μ δ pc ls (va_rf ry :: va_rf rx :: st) (if rx = ry then pf else pt) :=
  xS.br (fun R H locs cells slots Q C k1 k2 => lv_acmp_ne C.1 C.2.1 d ht k2 k1) kf kt
theorem xs_ifnull {x : Option Nat} {off : Int} {tgt : Nat} (d : decode δ.1 pc = .ok (.ifnull off, 3)) (ht : (pc : Int) + off = (tgt : Int)) (kt : xS Z κ μ δ tgt ls st pt) (kf : xS Z κ μ δ (pc + 3) ls st pf) : xS Z κ μ δ pc ls (va_rf x :: st) (xnull x pt pf) := by
  cases x with
  | none => exact xS.pure (fun R H locs cells slots Q C k => lv_ifnullN C.1 C.2.1 d ht k) kt
  | some a => exact xS.pure (fun R H locs cells slots Q C k => lv_ifnull C.1 C.2.1 d k) kf
theorem xs_ifnonnull {x : Option Nat} {off : Int} {tgt : Nat} (d : decode δ.1 pc = .ok (.ifnonnull off, 3)) (ht : (pc : Int) + off = (tgt : Int)) (kt : xS Z κ μ δ tgt ls st pt) (kf : xS Z κ μ δ (pc + 3) ls st pf) : xS Z κ μ δ pc ls (va_rf x :: st) (xnull x pf pt) := by
  cases x with
  | none => exact xS.pure (fun R H locs cells slots Q C k => lv_ifnonnullN C.1 C.2.1 d k) kf
  | some a => exact xS.pure (fun R H locs cells slots Q C k => lv_ifnonnull C.1 C.2.1 d ht k) kt
theorem xs_ldc {index : Nat} {v : Int32} (q : Cond.constant δ.2.2.1 index v ∈ lw_all) (d : decode δ.1 pc = .ok (.ldc index, 2)) (k : xS Z κ μ δ (pc + 2) ls (.int v :: st) pr) : xS Z κ μ δ pc ls st pr :=
  xS.pure (fun R H locs cells slots Q C k => lv_ldc C.1 C.2.1 C.2.2.2.1 (C.2.2.2.2.1 _ q) d k) k
theorem xs_ldcw {index : Nat} {v : Int32} (q : Cond.constant δ.2.2.1 index v ∈ lw_all) (d : decode δ.1 pc = .ok (.ldc_w index, 3)) (k : xS Z κ μ δ (pc + 3) ls (.int v :: st) pr) : xS Z κ μ δ pc ls st pr :=
  xS.pure (fun R H locs cells slots Q C k => lv_ldcw C.1 C.2.1 C.2.2.2.1 (C.2.2.2.2.1 _ q) d k) k
theorem xs_ldc2 {index : Nat} {v : Int64} (q : Cond.constantLong δ.2.2.1 index v ∈ lw_all) (d : decode δ.1 pc = .ok (.ldc2_w index, 3)) (k : xS Z κ μ δ (pc + 3) ls (.long v :: st) pr) : xS Z κ μ δ pc ls st pr :=
  xS.pure (fun R H locs cells slots Q C k => lv_ldc2 C.1 C.2.1 C.2.2.2.1 (C.2.2.2.2.1 _ q) d k) k
/-- switches -/
def xsw (x : Int32) (cs : List (Int × XM)) (dd : XM) : XM := match cs with
  | [] => dd
  | (v, A) :: t => if x.toInt = v then A else xsw x t dd
theorem xs_sw {x : Int32} {v : Int} {t : List (Int × XM)} {dd A : XM} (k1 : x.toInt = v → xS Z κ μ δ pc ls st A) (k2 : ¬ x.toInt = v → xS Z κ μ δ pc ls st (xsw x t dd)) : xS Z κ μ δ pc ls st (xsw x ((v, A) :: t) dd) := by
  unfold xsw
  split
  · rename_i h
    exact k1 h
  · rename_i h
    exact k2 h
theorem xs_tabIn {dflt lo hi : Int} {offs : Array Int} {len : Nat} {x : Int32} {off v : Int} {tgt : Nat} (d : decode δ.1 pc = .ok (.tableswitch dflt lo hi offs, len)) (hv : x.toInt = v) (h1 : ¬ v < lo) (h2 : ¬ hi < v) (ho : offs[(v - lo).toNat]? = some off) (ht : (pc : Int) + off = (tgt : Int)) (k : xS Z κ μ δ tgt ls st pr) : xS Z κ μ δ pc ls (.int x :: st) pr :=
  xS.pure (fun R H locs cells slots Q C k => lv_tableIn C.1 C.2.1 d (by rw [hv]; exact h1) (by rw [hv]; exact h2) (by rw [hv]; exact ho) ht k) k
theorem xs_tabOut {dflt lo hi : Int} {offs : Array Int} {len : Nat} {x : Int32} {tgt : Nat} (d : decode δ.1 pc = .ok (.tableswitch dflt lo hi offs, len)) (h : x.toInt < lo ∨ hi < x.toInt) (ht : (pc : Int) + dflt = (tgt : Int)) (k : xS Z κ μ δ tgt ls st pr) : xS Z κ μ δ pc ls (.int x :: st) pr :=
  xS.pure (fun R H locs cells slots Q C k => lv_tableOut C.1 C.2.1 d h ht k) k
theorem xs_look {dflt : Int} {ps : Array (Int × Int)} {len : Nat} {x : Int32} {off : Int} {tgt : Nat} (d : decode δ.1 pc = .ok (.lookupswitch dflt ps, len)) (hp : (ps.toList.zip (ps.toList.drop 1)).all (fun (a, next) => a.1 < next.1) = true) (ho : Op.lookupswitch.offset ps.toList dflt x.toInt = off) (ht : (pc : Int) + off = (tgt : Int)) (k : xS Z κ μ δ tgt ls st pr) : xS Z κ μ δ pc ls (.int x :: st) pr :=
  xS.pure (fun R H locs cells slots Q C k => lv_lookup C.1 C.2.1 d hp ho ht k) k
end XR
