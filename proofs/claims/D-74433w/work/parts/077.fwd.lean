/-! the classes that the sites' rule has made: their forwarders -/
def xfD (i : Nat) : ClassFile := ((xlam i).2.2.2.file (xlam i).1.cls).getD { minorVersion := 0, majorVersion := 0, constantPool := #[], accessFlags := 0, thisClass := 0, superClass := 0, interfaces := #[], fields := #[], methods := #[], attributes := #[] }
def xfM (i : Nat) : Method := ((layoutMethods (xfD i)).bind (·[1]?)).getD default
def xfL (i : Nat) : Array Field × Array FieldType × Array FieldType := (layoutFields (xfD i) 0).getD (#[], #[], #[])
/-- how many are captured -/
def xfk (i : Nat) : Nat := if i = 0 ∨ i = 1 ∨ i = 3 ∨ i = 4 ∨ i = 5 then 2 else if i = 2 ∨ i = 12 then 1 else 0
/-- the pool's places: the target, its class, her name, the target's name and type; the fields' -/
def xfN (i : Nat) : Nat × Nat × Nat × Nat := if xfk i = 2 then (26, 22, 21, 25) else if xfk i = 1 then (23, 19, 18, 22) else (17, 14, 13, 16)
def xfF (i j : Nat) : Nat := (if xfk i = 2 then 16 else 15) + 2 * j
def xfB (i : Nat) : ByteArray := if xfk i = 2 then ⟨#[0x2a, 0xb4, 0, 16, 0x2a, 0xb4, 0, 18, 0x2b, 0xb8, 0, 26, 0xac]⟩ else if xfk i = 1 then ⟨#[0x2a, 0xb4, 0, 15, 0x2b, 0xb8, 0, 23, 0xac]⟩ else ⟨#[0x2b, 0xb8, 0, 17, 0xac]⟩
theorem xf_all {P : Nat → Prop} (h0 : P 0) (h1 : P 1) (h2 : P 2) (h3 : P 3) (h4 : P 4) (h5 : P 5) (h6 : P 6) (h7 : P 7) (h8 : P 8) (h9 : P 9) (h10 : P 10) (h11 : P 11) (h12 : P 12) : ∀ i, i < 13 → P i := by
  intro i hi
  match i, hi with
  | 0, _ => exact h0
  | 1, _ => exact h1
  | 2, _ => exact h2
  | 3, _ => exact h3
  | 4, _ => exact h4
  | 5, _ => exact h5
  | 6, _ => exact h6
  | 7, _ => exact h7
  | 8, _ => exact h8
  | 9, _ => exact h9
  | 10, _ => exact h10
  | 11, _ => exact h11
  | 12, _ => exact h12
theorem xf_file0 : ∀ i, i < 13 → ((xlam i).2.2.2.file (xlam i).1.cls).isSome = true := xf_all (by decide +kernel) (by decide +kernel) (by decide +kernel) (by decide +kernel) (by decide +kernel) (by decide +kernel) (by decide +kernel) (by decide +kernel) (by decide +kernel) (by decide +kernel) (by decide +kernel) (by decide +kernel) (by decide +kernel)
theorem xf_second0 : ∀ i, i < 13 → ((layoutMethods (xfD i)).bind (·[1]?)).isSome = true := xf_all (by decide +kernel) (by decide +kernel) (by decide +kernel) (by decide +kernel) (by decide +kernel) (by decide +kernel) (by decide +kernel) (by decide +kernel) (by decide +kernel) (by decide +kernel) (by decide +kernel) (by decide +kernel) (by decide +kernel)
theorem xf_laid0 : ∀ i, i < 13 → (layoutFields (xfD i) 0).isSome = true := xf_all (by decide +kernel) (by decide +kernel) (by decide +kernel) (by decide +kernel) (by decide +kernel) (by decide +kernel) (by decide +kernel) (by decide +kernel) (by decide +kernel) (by decide +kernel) (by decide +kernel) (by decide +kernel) (by decide +kernel)
theorem xf_code : ∀ i, i < 13 → ((xfM i).code.map fun c => (c.code.data, c.maxLocals)) = some ((xfB i).data, 2) := xf_all (by decide +kernel) (by decide +kernel) (by decide +kernel) (by decide +kernel) (by decide +kernel) (by decide +kernel) (by decide +kernel) (by decide +kernel) (by decide +kernel) (by decide +kernel) (by decide +kernel) (by decide +kernel) (by decide +kernel)
theorem xf_flags : ∀ i, i < 13 → ((xfM i).accessFlags, (xfM i).sig.returnType) = (0x0001, (xlam i).2.2.2.sam.returnType) := xf_all (by decide +kernel) (by decide +kernel) (by decide +kernel) (by decide +kernel) (by decide +kernel) (by decide +kernel) (by decide +kernel) (by decide +kernel) (by decide +kernel) (by decide +kernel) (by decide +kernel) (by decide +kernel) (by decide +kernel)
theorem xf_eM : ∀ i, i < 13 → (xfD i).constantPool[(xfN i).1]? = some (.methodref (xfN i).2.1 (xfN i).2.2.2) ∧ (xfD i).constantPool.className? (xfN i).2.1 = some (xlam i).2.2.2.implClass ∧ (xfD i).constantPool.nameAndType? (xfN i).2.2.2 = some ((xlam i).2.2.2.implName, (xlam i).2.2.2.implDesc.toString) := xf_all (by decide +kernel) (by decide +kernel) (by decide +kernel) (by decide +kernel) (by decide +kernel) (by decide +kernel) (by decide +kernel) (by decide +kernel) (by decide +kernel) (by decide +kernel) (by decide +kernel) (by decide +kernel) (by decide +kernel)
theorem xf_eC : ∀ i, i < 13 → (xfD i).constantPool[(xfN i).2.1]? = some (.class_ (xfN i).2.2.1) ∧ (xfD i).constantPool.string? (xfN i).2.2.1 = some (xlam i).2.2.2.implClass ∧ (xfN i).2.1 ≠ (xfD i).thisClass := xf_all (by decide +kernel) (by decide +kernel) (by decide +kernel) (by decide +kernel) (by decide +kernel) (by decide +kernel) (by decide +kernel) (by decide +kernel) (by decide +kernel) (by decide +kernel) (by decide +kernel) (by decide +kernel) (by decide +kernel)
theorem xf_file {i : Nat} (hi : i < 13) : (xlam i).2.2.2.file (xlam i).1.cls = some (xfD i) := by
  obtain ⟨x, hx⟩ := Option.isSome_iff_exists.mp (xf_file0 i hi)
  unfold xfD
  rw [hx]
  rfl
theorem xf_second {i : Nat} (hi : i < 13) : ∀ ms, layoutMethods (xfD i) = some ms → ms[1]? = some (xfM i) := by
  intro ms hms
  obtain ⟨x, hx⟩ := Option.isSome_iff_exists.mp (xf_second0 i hi)
  have hf : xfM i = x := by unfold xfM; rw [hx]; rfl
  rw [hms] at hx
  rw [hf]
  exact hx
theorem xf_laid {i : Nat} (hi : i < 13) : layoutFields (xfD i) 0 = some (xfL i) := by
  obtain ⟨x, hx⟩ := Option.isSome_iff_exists.mp (xf_laid0 i hi)
  unfold xfL
  rw [hx]
  rfl
theorem xf_f0 : ∀ i, i < 13 → 1 ≤ xfk i → (xfD i).constantPool[xfF i 0]? = some (.fieldref 2 (xfF i 0 - 1)) ∧ (xfD i).constantPool.nameAndType? (xfF i 0 - 1) = some ("arg$1", ((xlam i).2.2.2.captured.getD 0 .int).toString) ∧ (xfL i).1.findIdx? (·.name == "arg$1") = some 0 ∧ ((xfL i).1[0]?).map (fun f => (f.isStatic, f.slot)) = some (false, 0) := xf_all (by decide +kernel) (by decide +kernel) (by decide +kernel) (by decide +kernel) (by decide +kernel) (by decide +kernel) (by decide +kernel) (by decide +kernel) (by decide +kernel) (by decide +kernel) (by decide +kernel) (by decide +kernel) (by decide +kernel)
theorem xf_f1 : ∀ i, i < 13 → 2 ≤ xfk i → (xfD i).constantPool[xfF i 1]? = some (.fieldref 2 (xfF i 1 - 1)) ∧ (xfD i).constantPool.nameAndType? (xfF i 1 - 1) = some ("arg$2", ((xlam i).2.2.2.captured.getD 1 .int).toString) ∧ (xfL i).1.findIdx? (·.name == "arg$2") = some 1 ∧ ((xfL i).1[1]?).map (fun f => (f.isStatic, f.slot)) = some (false, 1) := xf_all (by decide +kernel) (by decide +kernel) (by decide +kernel) (by decide +kernel) (by decide +kernel) (by decide +kernel) (by decide +kernel) (by decide +kernel) (by decide +kernel) (by decide +kernel) (by decide +kernel) (by decide +kernel) (by decide +kernel)
