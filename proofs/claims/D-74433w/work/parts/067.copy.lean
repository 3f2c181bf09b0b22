/-! stores of references, copies, Class objects over xS -/
section XCO
variable {Z : XZ} {κ : XK} {μ : XU} {δ : XT} {pc : Nat} {ls : Array Slot} {st rest : List Value} {pr : XM} {fr0 lo0 index : Nat}
theorem xobj_some {h : XH} {y : Nat} (e : xobj h (some y) = true) : ∃ (c : Nat) (fs : List Value) (q : vw_C), h.1 y = some (.inr (c, fs)) ∧ xcl[c]? = some q := by
  unfold xobj at e
  dsimp only at e
  split at e
  · rename_i o ho
    obtain ⟨c, fs⟩ := o
    have hc : c < 17 := of_decide_eq_true e
    have hl : c < xcl.length := hc
    exact ⟨c, fs, xcl[c], ho, List.getElem?_eq_getElem hl⟩
  · cases e
theorem xassign (C : xC Z κ δ) {c : Nat} {q : vw_C} (hc : xcl[c]? = some q) {c0 comp : ClassId} (h1 : κ.2.2.2.1.vm.findClass "java/lang/Object" = some comp) (h2 : κ.2.2.2.1.vm.findClass q.1 = some c0) : κ.2.2.2.1.vm.assignable c0 comp = true := by
  obtain ⟨c3, c4, hc3, hc4, hasg⟩ := Cond.castable_spec (va_Nw.use (A := κ.2.2.2.2.2.1) rfl (va_Nw.warmC C.W (C.tbl (xcastables c q hc) rfl)))
  cases hc3.symm.trans h2
  cases hc4.symm.trans h1
  exact hasg
theorem xs_aast {r x : Option Nat} {i : Int32} (d : decode δ.1 pc = .ok (.aastore, 1)) (K : xS Z κ μ δ (pc + 1) ls st pr) : xS Z κ μ δ pc ls (va_rf x :: .int i :: va_rf r :: st) (xsR r i x pr) := by
  intro h o h1 e
  unfold xsR at e
  split at e
  · rename_i n f hx
    split at e
    · rename_i hi
      obtain ⟨a, rfl, ha⟩ := xarr_some hx
      obtain ⟨hi, hB, ho⟩ := hi
      obtain ⟨m, b⟩ := K _ o h1 e
      refine ⟨m, fun H locs R C q1 q2 q3 q4 q5 q6 q7 q8 q9 => ?_⟩
      obtain ⟨ht, hc⟩ := (q2.2.2.2.2.2 a _ ha).2 (by rw [← q2.2.2.2.1]; exact hB)
      have fin : ∀ H1 : Heap, H1[a]? = some ((vp_cell (Z.1.2.1 3) (n, .inr (.inr (.inr (.inr f))))).setSlot i.toNatClampNeg (va_rf x)) → H1.size = H.size → (∀ q : Nat, q ≠ a → H1[q]? = H[q]?) → xW κ R H1 (locs ++ [⟨a, i.toNatClampNeg⟩]) (h.2.1 - μ.1) (h.2.2.1 - μ.2.1) (xQ Z κ o h1 (h1.2.1 - μ.1) (h1.2.2.1 - μ.2.1)) (F0 κ.2.2.2.2.1 (pc + 1) ls st) := by
        intro H1 e1 z oq
        refine b H1 _ R C q1 (q2.set hB z oq ⟨by omega, ?_⟩) (xfree_app q3 (xB q2 hB)) q4 q5 q6 q7 q8 q9
        show H1[a]? = some (vp_cell _ _)
        rw [e1]
        rw [vp_cell_q, vp_cell_q, arrV_store]
        congr 2
        funext q
        by_cases hq : q = i.toNatClampNeg
        · subst hq
          simp [updV, va_up]
        · simp [updV, va_up, hq]
      cases x with
      | none =>
        exact va_WaastN C.1 C.2.1 (C := "java/lang/Object") hc (C.arr (by omega) n (fun j => va_rf (f j))) (fun q => by cases q) (by show ¬ (i < 0 ∨ (arrV _ _ _).slots.size ≤ _); rw [arrV_size]; exact xin_not hi) rfl rfl d fin
      | some v =>
        obtain ⟨c, fs, q, hv, hq⟩ := xobj_some ho
        obtain ⟨cellV, g1, g2, g3, -⟩ := (q2.2.2.2.2.2 v _ hv).1.obj hq
        obtain ⟨kA, comp, k1, k2, k3, -⟩ := (C.K.2 3 _ (xtys_at Z.1 (by omega))).2
        obtain ⟨kE, hkE, -⟩ := Vm.findClass_spec k3
        obtain ⟨hf, kC, hkC, -⟩ := C.at hq
        exact W.aast C.1 C.2.1 hc (fun q h => by cases h) (fun h => by cases h) k1 k2 rfl hkE ⟨fun z => xin_not hi (Or.inl z), by show _ < (arrV _ _ _).slots.size; rw [arrV_size]; exact xtop hi⟩ g1 (fun q h => by rw [h] at g3; cases g3) (by rw [g2]; exact hkC) (by rw [g2]; exact xassign C hq k3 hf) rfl rfl d fin
    · cases e
  · cases e
theorem xnn32 (z : Int32) (hz : ¬ z < 0) : z.toInt = (z.toNatClampNeg : Int) := by
  have hz0 : (0 : Int) ≤ z.toInt := by
    have := Int32.not_lt.mp hz
    simpa using Int32.le_iff_toInt_le.mp this
  show z.toInt = ((z.toInt.toNat : Nat) : Int)
  omega
/-- System.arraycopy of bytes -/
def xcpOk (sp dp n : Int32) (n0 n1 : Nat) : Bool := !decide (sp < 0) && !decide (dp < 0) && !decide (n < 0) && decide (sp.toNatClampNeg + n.toNatClampNeg ≤ n0) && decide (dp.toNatClampNeg + n.toNatClampNeg ≤ n1)
theorem xcpOk_spec {sp dp n : Int32} {n0 n1 : Nat} (h : xcpOk sp dp n n0 n1 = true) : ¬ sp < 0 ∧ ¬ dp < 0 ∧ ¬ n < 0 ∧ sp.toNatClampNeg + n.toNatClampNeg ≤ n0 ∧ dp.toNatClampNeg + n.toNatClampNeg ≤ n1 := by
  unfold xcpOk at h
  simpa [and_assoc] using h
def xcpB (r0 : Option Nat) (sp : Int32) (r1 : Option Nat) (dp n : Int32) (kk : XM) : XM := fun h => match xarr h r0 1, xarr h r1 1 with
  | some (n0, .inl f), some (n1, .inl g) => if (xcpOk sp dp n n0 n1 = true ∧ h.2.2.2.1 ≤ r1.getD 0 ∧ h.2.2.2.1 ≤ r0.getD 0) ∧ (List.range n.toNatClampNeg).all (fun j => fits .byte (.int (f (sp.toNatClampNeg + j)))) = true then kk (xset h (r1.getD 0) (.inl (1, n1, .inl (va_cpy f g sp.toNatClampNeg dp.toNatClampNeg n.toNatClampNeg)))) else none
  | _, _ => none
def xcpR (r0 : Option Nat) (sp : Int32) (r1 : Option Nat) (dp n : Int32) (kk : XM) : XM := fun h => match xarr h r0 3, xarr h r1 3 with
  | some (n0, .inr (.inr (.inr (.inr f)))), some (n1, .inr (.inr (.inr (.inr g)))) => if (xcpOk sp dp n n0 n1 = true ∧ h.2.2.2.1 ≤ r1.getD 0 ∧ h.2.2.2.1 ≤ r0.getD 0) ∧ (List.range n.toNatClampNeg).all (fun j => xobj h (f (sp.toNatClampNeg + j))) = true then kk (xset h (r1.getD 0) (.inl (3, n1, .inr (.inr (.inr (.inr (va_cpy f g sp.toNatClampNeg dp.toNatClampNeg n.toNatClampNeg))))))) else none
  | _, _ => none
theorem xcp_locs {α : Type} {locs : List Loc} {a : Nat} {L : List Loc} (h : ∀ z ∈ locs, xfree Z z.base) (ha : xfree Z a) (hL : ∀ z ∈ L, z.base = a) (_ : α) : ∀ z ∈ locs ++ L, xfree Z z.base := by
  intro z hz
  rcases List.mem_append.mp hz with h1 | h1
  · exact h z h1
  · rw [hL z h1]
    exact ha
theorem xs_cpB {r0 r1 : Option Nat} {sp dp n : Int32} (w1 : Cond.methodLink δ.2.2.1 index arraycopyName ∈ lw_all) (w2 : Cond.native arraycopyName ∈ lw_all) (w3 : Cond.static arraycopyName ∈ lw_all) (w4 : Cond.initialized "java/lang/System" ∈ lw_all) (d : decode δ.1 pc = .ok (.invokestatic index, 3)) (hμ : μ.2.2 = (fr0, lo0)) (hF : 1 ≤ fr0) (hL : 26 ≤ lo0) (hW : (rest.map fun v => v.category).sum ≤ 8) (hls : ls.size = δ.2.1) (K : xS Z κ μ δ (pc + 3) ls rest pr) : xS Z κ μ δ pc ls (.int n :: .int dp :: va_rf r1 :: .int sp :: va_rf r0 :: rest) (xcpB r0 sp r1 dp n pr) := by
  intro h o h1 e
  unfold xcpB at e
  split at e
  · rename_i n0 f n1 g hx0 hx1
    split at e
    · rename_i hi
      obtain ⟨a0, rfl, ha0⟩ := xarr_some hx0
      obtain ⟨a, rfl, ha1⟩ := xarr_some hx1
      obtain ⟨⟨hok, hB, hB0⟩, hfit⟩ := hi
      obtain ⟨p1, p2, p3, p4, p5⟩ := xcpOk_spec hok
      have hfit : ∀ i, i < n.toNatClampNeg → fits .byte (.int (f (sp.toNatClampNeg + i))) = true := fun i hi => List.all_eq_true.mp hfit i (List.mem_range.mpr hi)
      obtain ⟨m, b⟩ := K _ o h1 e
      refine ⟨m, fun H locs R C q1 q2 q3 q4 q5 q6 q7 q8 q9 => ?_⟩
      have hc0 := ((q2.2.2.2.2.2 a0 _ ha0).2 (by rw [← q2.2.2.2.1]; exact hB0)).2
      have hc1 := ((q2.2.2.2.2.2 a _ ha1).2 (by rw [← q2.2.2.2.1]; exact hB)).2
      obtain ⟨-, k0, hk0, cm0, hkk0⟩ := C.arr (t := 1) (by omega) n0 (fun j => .int (f j))
      obtain ⟨-, k1, hk1, cm1, hkk1⟩ := C.arr (t := 1) (by omega) n1 (fun j => .int (g j))
      have hroom := lv_room (m := κ.2.2.2.2.1) (pc := pc) (ls := ls) (rest := Value.int n :: .int dp :: va_rf (some a) :: .int sp :: va_rf (some a0) :: rest) hW
      have hnf : nativeFrameWords "java/lang/System" "arraycopy" 5 = 7 := by decide
      intro T hT X
      obtain ⟨vm', X', step⟩ := X.arraycopy C.1 C.own (C.ws _ w1) (C.ws _ w2) (C.ws _ w3) (C.ws _ w4) (src := a0) (dst := a) (cs := vp_cell (Z.1.2.1 1) (n0, .inl f)) (cd := vp_cell (Z.1.2.1 1) (n1, .inl g)) (srcPos := sp) (destPos := dp) (n := n) (by rw [hT]; exact hc0) (by rw [hT]; exact hc1)
        (fun _ h => by cases h) (fun _ h => by cases h) (fun h => by cases h) (fun h => by cases h) hk0 hk1 hkk0 hkk1 rfl p1 p2 p3
        (by rw [xnn32 sp p1, xnn32 n p3]; show ¬ _ > ((arrV _ n0 (fun j => .int (f j))).slots.size : Int); rw [arrV_size]; omega)
        (by rw [xnn32 dp p2, xnn32 n p3]; show ¬ _ > ((arrV _ n1 (fun j => .int (g j))).slots.size : Int); rw [arrV_size]; omega)
        (fun vm₁ _ i hi => by
          have e : (vp_cell (Z.1.2.1 1) (n0, .inl f)).slots.getD (sp.toNatClampNeg + i) .null = .int (f (sp.toNatClampNeg + i)) := by
            show (arrV _ n0 (fun j => .int (f j))).slots.getD _ _ = _
            rw [Array.getD_eq_getD_getElem?, arrV_read _ _ (by omega)]
            rfl
          refine ⟨?_, ?_⟩
          · rw [e]
            exact hfit i hi
          · rw [e]
            exact trivial)
        (g := F0 κ.2.2.2.2.1 pc ls (.int n :: .int dp :: .ref a :: .int sp :: .ref a0 :: rest)) rfl (hls.trans C.2.2.1.symm) (rest := rest) rfl (by rw [C.2.1]; exact d) (by rw [q6, hμ]; exact hF) (by rw [q7, hμ, hnf]; dsimp only at hroom ⊢; omega)
      have e1 : copied (vp_cell (Z.1.2.1 1) (n0, .inl f)) (vp_cell (Z.1.2.1 1) (n1, .inl g)) sp dp n = vp_cell (Z.1.2.1 1) (n1, .inl (va_cpy f g sp.toNatClampNeg dp.toNatClampNeg n.toNatClampNeg)) := va_copied (fun z => .int z) _ _ f g p4
      rw [e1] at X' step
      have hl : a < H.size := (Array.getElem?_eq_some_iff.mp hc1).1
      obtain ⟨t9, a9, b9⟩ := b (H.setIfInBounds a (vp_cell (Z.1.2.1 1) (n1, .inl (va_cpy f g sp.toNatClampNeg dp.toNatClampNeg n.toNatClampNeg)))) _ R C q1 (q2.set hB (by simp) (fun q hq => by have hq : ¬ a = q := fun z => hq z.symm; simp [Array.getElem?_setIfInBounds, hq]) ⟨by omega, by simp [Array.getElem?_setIfInBounds, hl]⟩) (xcp_locs (L := _) q3 (xB q2 hB) (fun z hz => by
          first | (obtain ⟨j, -, rfl⟩ := List.mem_map.mp hz; rfl) | exact (by simp at hz; obtain ⟨j, -, rfl⟩ := hz; rfl)) ()) q4 q5 q6 q7 q8 q9 _ (by rw [← hT]; rfl) X'
      exact ⟨t9, step t9 a9, b9⟩
    · cases e
  · cases e
theorem xs_cpR {r0 r1 : Option Nat} {sp dp n : Int32} (w1 : Cond.methodLink δ.2.2.1 index arraycopyName ∈ lw_all) (w2 : Cond.native arraycopyName ∈ lw_all) (w3 : Cond.static arraycopyName ∈ lw_all) (w4 : Cond.initialized "java/lang/System" ∈ lw_all) (d : decode δ.1 pc = .ok (.invokestatic index, 3)) (hμ : μ.2.2 = (fr0, lo0)) (hF : 1 ≤ fr0) (hL : 26 ≤ lo0) (hW : (rest.map fun v => v.category).sum ≤ 8) (hls : ls.size = δ.2.1) (K : xS Z κ μ δ (pc + 3) ls rest pr) : xS Z κ μ δ pc ls (.int n :: .int dp :: va_rf r1 :: .int sp :: va_rf r0 :: rest) (xcpR r0 sp r1 dp n pr) := by
  intro h o h1 e
  unfold xcpR at e
  split at e
  · rename_i n0 f n1 g hx0 hx1
    split at e
    · rename_i hi
      obtain ⟨a0, rfl, ha0⟩ := xarr_some hx0
      obtain ⟨a, rfl, ha1⟩ := xarr_some hx1
      obtain ⟨⟨hok, hB, hB0⟩, hel⟩ := hi
      obtain ⟨p1, p2, p3, p4, p5⟩ := xcpOk_spec hok
      have hel : ∀ i, i < n.toNatClampNeg → xobj h (f (sp.toNatClampNeg + i)) = true := fun i hi => List.all_eq_true.mp hel i (List.mem_range.mpr hi)
      obtain ⟨m, b⟩ := K _ o h1 e
      refine ⟨m, fun H locs R C q1 q2 q3 q4 q5 q6 q7 q8 q9 => ?_⟩
      have hc0 := ((q2.2.2.2.2.2 a0 _ ha0).2 (by rw [← q2.2.2.2.1]; exact hB0)).2
      have hc1 := ((q2.2.2.2.2.2 a _ ha1).2 (by rw [← q2.2.2.2.1]; exact hB)).2
      obtain ⟨-, k0, hk0, cm0, hkk0⟩ := C.arr (t := 3) (by omega) n0 (fun j => va_rf (f j))
      obtain ⟨-, k1, hk1, cm1, hkk1⟩ := C.arr (t := 3) (by omega) n1 (fun j => va_rf (g j))
      have hroom := lv_room (m := κ.2.2.2.2.1) (pc := pc) (ls := ls) (rest := Value.int n :: .int dp :: va_rf (some a) :: .int sp :: va_rf (some a0) :: rest) hW
      have hnf : nativeFrameWords "java/lang/System" "arraycopy" 5 = 7 := by decide
      intro T hT X
      obtain ⟨vm', X', step⟩ := X.arraycopy C.1 C.own (C.ws _ w1) (C.ws _ w2) (C.ws _ w3) (C.ws _ w4) (src := a0) (dst := a) (cs := vp_cell (Z.1.2.1 3) (n0, .inr (.inr (.inr (.inr f))))) (cd := vp_cell (Z.1.2.1 3) (n1, .inr (.inr (.inr (.inr g))))) (srcPos := sp) (destPos := dp) (n := n) (by rw [hT]; exact hc0) (by rw [hT]; exact hc1)
        (fun _ h => by cases h) (fun _ h => by cases h) (fun h => by cases h) (fun h => by cases h) hk0 hk1 hkk0 hkk1 rfl p1 p2 p3
        (by rw [xnn32 sp p1, xnn32 n p3]; show ¬ _ > ((arrV _ n0 (fun j => va_rf (f j))).slots.size : Int); rw [arrV_size]; omega)
        (by rw [xnn32 dp p2, xnn32 n p3]; show ¬ _ > ((arrV _ n1 (fun j => va_rf (g j))).slots.size : Int); rw [arrV_size]; omega)
        (fun vm₁ hal i hi => by
          have e : (vp_cell (Z.1.2.1 3) (n0, .inr (.inr (.inr (.inr f))))).slots.getD (sp.toNatClampNeg + i) .null = va_rf (f (sp.toNatClampNeg + i)) := by
            show (arrV _ n0 (fun j => va_rf (f j))).slots.getD _ _ = _
            rw [Array.getD_eq_getD_getElem?, arrV_read _ _ (by omega)]
            rfl
          rw [e]
          have hob := hel i hi
          cases hy : f (sp.toNatClampNeg + i) with
          | none => exact ⟨rfl, trivial⟩
          | some y =>
            rw [hy] at hob
            obtain ⟨c, fs, q, hv, hq⟩ := xobj_some hob
            obtain ⟨cellV, g1, g2, g3, -⟩ := (q2.2.2.2.2.2 y _ hv).1.obj hq
            obtain ⟨hf, kC, hkC, -⟩ := C.at hq
            obtain ⟨kA, comp, r1, r2, r3, -⟩ := (C.K.2 3 _ (xtys_at Z.1 (by omega))).2
            cases hk1.symm.trans r1
            cases hkk1.symm.trans r2
            obtain ⟨kE, hkE, -⟩ := Vm.findClass_spec r3
            obtain ⟨kC', hkC', -⟩ := hal.2.2 _ _ hkC
            obtain ⟨kE', hkE', -⟩ := hal.2.2 _ _ hkE
            refine ⟨rfl, cellV, (show T.heap[y]? = some cellV by rw [hT]; exact g1), (fun q h => by rw [h] at g3; cases g3), ⟨kC', by rw [g2]; exact hkC'⟩, ?_, ?_⟩
            · exact ⟨kE', hkE'⟩
            · show vm₁.assignable _ _ = true
              rw [hal.assignable, g2]
              exact xassign C hq r3 hf)
        (g := F0 κ.2.2.2.2.1 pc ls (.int n :: .int dp :: .ref a :: .int sp :: .ref a0 :: rest)) rfl (hls.trans C.2.2.1.symm) (rest := rest) rfl (by rw [C.2.1]; exact d) (by rw [q6, hμ]; exact hF) (by rw [q7, hμ, hnf]; dsimp only at hroom ⊢; omega)
      have e1 : copied (vp_cell (Z.1.2.1 3) (n0, .inr (.inr (.inr (.inr f))))) (vp_cell (Z.1.2.1 3) (n1, .inr (.inr (.inr (.inr g))))) sp dp n = vp_cell (Z.1.2.1 3) (n1, .inr (.inr (.inr (.inr (va_cpy f g sp.toNatClampNeg dp.toNatClampNeg n.toNatClampNeg))))) := by
        rw [vp_cell_q, vp_cell_q, vp_cell_q]
        exact va_copied (fun z => va_rf z) _ _ f g p4
      rw [e1] at X' step
      have hl : a < H.size := (Array.getElem?_eq_some_iff.mp hc1).1
      obtain ⟨t9, a9, b9⟩ := b (H.setIfInBounds a (vp_cell (Z.1.2.1 3) (n1, .inr (.inr (.inr (.inr (va_cpy f g sp.toNatClampNeg dp.toNatClampNeg n.toNatClampNeg))))))) _ R C q1 (q2.set hB (by simp) (fun q hq => by have hq : ¬ a = q := fun z => hq z.symm; simp [Array.getElem?_setIfInBounds, hq]) ⟨by omega, by simp [Array.getElem?_setIfInBounds, hl]⟩) (xcp_locs (L := _) q3 (xB q2 hB) (fun z hz => by
          first | (obtain ⟨j, -, rfl⟩ := List.mem_map.mp hz; rfl) | exact (by simp at hz; obtain ⟨j, -, rfl⟩ := hz; rfl)) ()) q4 q5 q6 q7 q8 q9 _ (by rw [← hT]; rfl) X'
      exact ⟨t9, step t9 a9, b9⟩
    · cases e
  · cases e
/-- clone of a byte array -/
def xcloneB (r : Option Nat) (kk : Option Nat → XM) : XM := fun h => match xarr h r 1 with
  | some (n, .inl f) => if (List.range n).all (fun j => fits .byte (.int (f j))) = true ∧ h.2.2.2.1 ≤ r.getD 0 then kk (some h.2.1) (xadd h (.inl (1, n, .inl f)) n) else none
  | _ => none
theorem xs_clone {r : Option Nat} {kk : Option Nat → XM} (w1 : Cond.methodLink δ.2.2.1 index ⟨"[B", "clone", "()Ljava/lang/Object;"⟩ ∈ lw_all) (w2 : Cond.sameMethod "[B" "java/lang/Object" "clone" "()Ljava/lang/Object;" ∈ lw_all) (w3 : Cond.native ⟨"java/lang/Object", "clone", "()Ljava/lang/Object;"⟩ ∈ lw_all) (w4 : Cond.instanceMethod ⟨"java/lang/Object", "clone", "()Ljava/lang/Object;"⟩ ∈ lw_all) (w5 : Cond.selects "[B" ⟨"[B", "clone", "()Ljava/lang/Object;"⟩ ⟨"java/lang/Object", "clone", "()Ljava/lang/Object;"⟩ ∈ lw_all) (w6 : Cond.castable "[B" "java/lang/Cloneable" ∈ lw_tbl)
    (d : decode δ.1 pc = .ok (.invokevirtual index, 3)) (hμ : μ.2.2 = (fr0, lo0)) (hF : 1 ≤ fr0) (hL : 26 ≤ lo0) (hW : (rest.map fun v => v.category).sum ≤ 8) (hls : ls.size = δ.2.1) (K : ∀ q : Option Nat, xS Z κ μ δ (pc + 3) ls (va_rf q :: rest) (kk q)) : xS Z κ μ δ pc ls (va_rf r :: rest) (xcloneB r kk) := by
  intro h o h1 e
  unfold xcloneB at e
  split at e
  · rename_i n f hx
    split at e
    · rename_i hfit
      obtain ⟨hfit, hB⟩ := hfit
      obtain ⟨a, rfl, ha⟩ := xarr_some hx
      obtain ⟨m, b⟩ := K _ _ o h1 e
      refine ⟨xMono.tr xadd_mono m, fun H locs R C q1 q2 q3 q4 q5 q6 q7 q8 q9 => ?_⟩
      have m1 : h.2.1 + 1 ≤ h1.2.1 := m.1
      have m2 : h.2.2.1 + n ≤ h1.2.2.1 := m.2
      have hc := ((q2.2.2.2.2.2 a _ ha).2 (by rw [← q2.2.2.2.1]; exact hB)).2
      have hnm := (C.K.2 1 _ (xtys_at Z.1 (by omega))).2
      obtain ⟨c0, t0', f1, f2, f3⟩ := Cond.castable_spec (va_Nw.use (A := κ.2.2.2.2.2.1) rfl (va_Nw.warmC C.W (C.tbl w6 rfl)))
      cases Option.some.inj (Eq.trans (Eq.symm hnm) f1)
      have hroom := lv_room (m := κ.2.2.2.2.1) (pc := pc) (ls := ls) (rest := va_rf (some a) :: rest) hW
      intro T hT X
      have hcellT : T.heap[a]? = some (vp_cell (Z.1.2.1 1) (n, .inl f)) := by rw [hT]; exact hc
      obtain ⟨-, kA, hkA, comp, hkind⟩ := State.isArrayOf_alike X.warmed.alike (C.arr (t := 1) (by omega) 0 (fun _ => .null))
      obtain ⟨-, kS, hkS, compS, hkindS⟩ := C.arr (t := 1) (by omega) 0 (fun _ => .null)
      have hsz : (vp_cell (Z.1.2.1 1) (n, .inl f)).slots.size = n := arrV_size _ _ _
      obtain ⟨vm', X', st9⟩ := X.cloneArray C.1 C.own (C.ws _ w1) (C.ws _ w2) (C.ws _ w3) (C.ws _ w4) (C.ws _ w5) (a := a) (cell := vp_cell (Z.1.2.1 1) (n, .inl f)) hcellT (fun k h => by cases h) (fun h => by cases h) hnm f2 f3
        (fun i v hv => by
          have hk' : T.vm.classes[Z.1.2.1 1]? = some kA := hkA
          have hv2 : fits .byte v = true := by
            rcases Nat.lt_or_ge i n with hi | hi
            · have : (arrV (Z.1.2.1 1) n (fun j => .int (f j))).slots[i]? = some (.int (f i)) := by rw [arrV_read _ _ hi]
              cases Option.some.inj (this.symm.trans hv)
              exact List.all_eq_true.mp hfit i (List.mem_range.mpr hi)
            · exfalso
              have := (Array.getElem?_eq_some_iff.mp hv).1
              rw [hsz] at this
              omega
          have hkind2 : kA.kind = .array comp .byte := hkind
          show T.fitsSlot (Z.1.2.1 1) _ i v = true
          simpa [State.fitsSlot, State.slotType?, hk', hkind2] using hv2)
        (g := F0 κ.2.2.2.2.1 pc ls (.ref a :: rest)) rfl (hls.trans C.2.2.1.symm) rfl (by rw [C.2.1]; exact d) (by rw [q6, hμ]; exact hF) (by rw [q7, hμ]; dsimp only at hroom ⊢; omega) (by omega) (by rw [hsz]; omega) (hloader := Vm.clonesLoader_of_array hkS hkindS)
      rw [hsz] at X'
      generalize hH1 : H.push (vp_cell (Z.1.2.1 1) (n, .inl f)) = H1
      have z1 : H1.size = H.size + 1 := by rw [← hH1, Array.size_push]
      have e1 : H1[H.size]? = some (vp_cell (Z.1.2.1 1) (n, .inl f)) := by rw [← hH1, Array.getElem?_push_size]
      have o1 : ∀ q : Nat, q < H.size → H1[q]? = H[q]? := fun q hq => by rw [← hH1, Array.getElem?_push, if_neg (Nat.ne_of_lt hq)]
      have hb := b H1 locs R C q1 (q2.add z1 o1 ⟨by show 1 < 6; omega, e1⟩) q3 (Nat.le_trans q4 (Nat.le_succ _)) (Nat.le_trans q5 (Nat.le_add_right _ _)) q6 q7 q8 q9
      have hh : H.size = h.2.1 := q2.1
      have hb := xW.add q4 q5 hb
      obtain ⟨t9, a9, b9⟩ := hb _ (by rw [← hH1, ← hT]; rfl) X'
      refine ⟨t9, st9 t9 ?_, b9⟩
      rw [hT, hh]
      exact a9
    · cases e
  · cases e
/-- Class objects: getClass of an Object[], and its constant -/
def xKM (i : Nat) (nm : String) : Prop := ∀ Z : XZ, xG Z → ∃ q : Nat, Z.2.2.1.2 i = some q ∧ va_Mi nm q Z.2.1
theorem xs_ldcM {i k : Nat} {nm : String} {kk : Option Nat → XM} (hp : xKM i nm) (w : Cond.classLink δ.2.2.1 k nm ∈ lw_all) (dd : decode δ.1 pc = .ok (.ldc k, 2)) (K : ∀ x : Option Nat, xS Z κ μ δ (pc + 2) ls (va_rf x :: st) (kk x)) : xS Z κ μ δ pc ls st (xK i kk) := by
  intro h o h1 e
  unfold xK at e
  obtain ⟨m, b⟩ := K _ h o h1 e
  refine ⟨m, fun H locs R C q1 q2 q3 q4 q5 q6 q7 q8 q9 => ?_⟩
  obtain ⟨q, hq, hv⟩ := hp Z C.G
  have hq2 : h.2.2.2.2 i = some q := by rw [q2.2.2.2.1]; exact hq
  have b := b H locs R C q1 q2 q3 q4 q5 q6 q7 q8 q9
  rw [hq2] at b
  exact va_ldcM C.1 C.2.1 C.own (C.ws _ w) (va_Mi.moved C.W.alike hv) dd b
def xgetC (i : Nat) (r : Option Nat) (kk : Option Nat → XM) : XM := fun h => match xarr h r 3 with
  | some _ => kk (h.2.2.2.2 i) h
  | none => none
theorem xs_getC {i : Nat} {r : Option Nat} {kk : Option Nat → XM} (hp : xKM i "[Ljava/lang/Object;") (w1 : Cond.methodLink δ.2.2.1 index ⟨"java/lang/Object", "getClass", "()Ljava/lang/Class;"⟩ ∈ lw_all) (w2 : Cond.declares ⟨"java/lang/Object", "getClass", "()Ljava/lang/Class;"⟩ ∈ lw_tbl) (w3 : Cond.selects "[Ljava/lang/Object;" ⟨"java/lang/Object", "getClass", "()Ljava/lang/Class;"⟩ ⟨"java/lang/Object", "getClass", "()Ljava/lang/Class;"⟩ ∈ lw_all) (w4 : Cond.instanceMethod ⟨"java/lang/Object", "getClass", "()Ljava/lang/Class;"⟩ ∈ lw_all) (w5 : Cond.native ⟨"java/lang/Object", "getClass", "()Ljava/lang/Class;"⟩ ∈ lw_all)
    (d : decode δ.1 pc = .ok (.invokevirtual index, 3)) (hμ : μ.2.2 = (fr0, lo0)) (hF : 1 ≤ fr0) (hL : 26 ≤ lo0) (hW : (rest.map fun v => v.category).sum ≤ 8) (hls : ls.size = δ.2.1) (K : ∀ q : Option Nat, xS Z κ μ δ (pc + 3) ls (va_rf q :: rest) (kk q)) : xS Z κ μ δ pc ls (va_rf r :: rest) (xgetC i r kk) := by
  intro h o h1 e
  unfold xgetC at e
  split at e
  · rename_i v hx
    obtain ⟨a, rfl, ha⟩ := xarr_some hx
    obtain ⟨m, b⟩ := K _ h o h1 e
    refine ⟨m, fun H locs R C q1 q2 q3 q4 q5 q6 q7 q8 q9 => ?_⟩
    obtain ⟨q, hq, hv⟩ := hp Z C.G
    have hq2 : h.2.2.2.2 i = some q := by rw [q2.2.2.2.1]; exact hq
    have b := b H locs R C q1 q2 q3 q4 q5 q6 q7 q8 q9
    rw [hq2] at b
    obtain ⟨ht, cell, hc, hcl, hvs, hvu, -⟩ := (q2.2.2.2.2.2 a _ ha).1
    obtain ⟨_, _, -, -, -, hnm⟩ := (C.K.2 3 _ (xtys_at Z.1 (by omega))).2
    exact va_getC C.1 C.2.1 (C.2.2.1.trans hls.symm) C.own (C.ws _ w1) (va_Dc.use (va_Dc.moved C.W.alike (va_Dc.of (C.G.2.1 _ w2)))) (C.ws _ w3) (C.ws _ w4) (C.ws _ w5) (va_Mi.moved C.W.alike hv) ⟨_, hc, hvs, by rw [hcl]; exact hnm⟩ (by rw [q6, hμ]; exact hF) (by rw [q7, hμ]; dsimp only; omega) d b
  · cases e
end XCO
