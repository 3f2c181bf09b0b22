/-! arrays and new cells over xS -/
section XAR
variable {Z : XZ} {κ : XK} {μ : XU} {δ : XT} {pc : Nat} {ls : Array Slot} {st : List Value} {pr : XM}
theorem xarr_some {h : XH} {r : Option Nat} {t : Nat} {v : vp_A} (e : xarr h r t = some v) : ∃ a : Nat, r = some a ∧ h.1 a = some (.inl (t, v)) := by
  unfold xarr at e
  split at e
  · cases e
  · rename_i a
    split at e
    · rename_i w hw
      split at e
      · rename_i hc
        obtain ⟨t2, v2⟩ := w
        dsimp only at hc e
        subst hc
        cases e
        exact ⟨a, rfl, hw⟩
      · cases e
    · cases e
theorem xin_not {i : Int32} {n : Nat} (h : xin i n = true) : ¬ (i < 0 ∨ n ≤ i.toNatClampNeg) := by
  unfold xin at h
  simpa using h
theorem xC.arr (C : xC Z κ δ) {t : Nat} (ht : t < 6) : ArrOfT κ.2.2.2.1 (Z.1.2.1 t) (xty t) := (C.K.2 t _ (xtys_at Z.1 ht)).1
theorem xtop {i : Int32} {n : Nat} (h : xin i n = true) : i.toNatClampNeg < n := Nat.not_le.mp fun q => xin_not h (Or.inr q)
theorem xC.isArr (C : xC Z κ δ) {t : Nat} (n : Nat := 0) {cell : Cell} (ht : t < 6) (h1 : cell.cls = Z.1.2.1 t) (h2 : cell.vm.isStatics = false) : κ.2.2.2.1.isArrayOf cell (xty t) := by
  obtain ⟨-, k, hk, comp, hkind⟩ := C.arr ht n (fun _ => .null)
  exact ⟨(fun q hq => by rw [hq] at h2; cases h2), k, (by rw [h1]; exact hk), comp, hkind⟩
theorem xs_iald {r : Option Nat} {i : Int32} {kk : Int32 → XM} (d : decode δ.1 pc = .ok (.iaload, 1)) (K : ∀ x : Int32, xS Z κ μ δ (pc + 1) ls (.int x :: st) (kk x)) : xS Z κ μ δ pc ls (.int i :: va_rf r :: st) (xaI 0 r i kk) := by
  intro h o h1 e
  unfold xaI at e
  split at e
  · rename_i n f hx
    split at e
    · rename_i hi
      obtain ⟨a, rfl, ha⟩ := xarr_some hx
      obtain ⟨m, b⟩ := K _ h o h1 e
      refine ⟨m, fun H locs R C q1 q2 q3 q4 q5 q6 q7 q8 q9 => ?_⟩
      obtain ⟨ht, cell, hc, hcl, hvs, hvu, hsz, hrd⟩ := (q2.2.2.2.2.2 a _ ha).1
      exact W.iald (v := .int (f i.toNatClampNeg)) C.1 C.2.1 hc (C.isArr (t := 0) (n := 0) ht hcl hvs) hvu (by rw [hsz]; exact xin_not hi) (hrd _ (xtop hi)) rfl rfl d (b H locs R C q1 q2 q3 q4 q5 q6 q7 q8 q9)
    · cases e
  · cases e
theorem xs_bald {r : Option Nat} {i : Int32} {kk : Int32 → XM} (d : decode δ.1 pc = .ok (.baload, 1)) (K : ∀ x : Int32, xS Z κ μ δ (pc + 1) ls (.int x :: st) (kk x)) : xS Z κ μ δ pc ls (.int i :: va_rf r :: st) (xaI 1 r i kk) := by
  intro h o h1 e
  unfold xaI at e
  split at e
  · rename_i n f hx
    split at e
    · rename_i hi
      obtain ⟨a, rfl, ha⟩ := xarr_some hx
      obtain ⟨m, b⟩ := K _ h o h1 e
      refine ⟨m, fun H locs R C q1 q2 q3 q4 q5 q6 q7 q8 q9 => ?_⟩
      obtain ⟨ht, cell, hc, hcl, hvs, hvu, hsz, hrd⟩ := (q2.2.2.2.2.2 a _ ha).1
      exact W.bald (v := .int (f i.toNatClampNeg)) C.1 C.2.1 hc (C.isArr (t := 1) (n := 0) ht hcl hvs) hvu (by rw [hsz]; exact xin_not hi) (hrd _ (xtop hi)) rfl rfl d (b H locs R C q1 q2 q3 q4 q5 q6 q7 q8 q9)
    · cases e
  · cases e
theorem xs_lald {r : Option Nat} {i : Int32} {kk : Int64 → XM} (d : decode δ.1 pc = .ok (.laload, 1)) (K : ∀ x : Int64, xS Z κ μ δ (pc + 1) ls (.long x :: st) (kk x)) : xS Z κ μ δ pc ls (.int i :: va_rf r :: st) (xaL r i kk) := by
  intro h o h1 e
  unfold xaL at e
  split at e
  · rename_i n f hx
    split at e
    · rename_i hi
      obtain ⟨a, rfl, ha⟩ := xarr_some hx
      obtain ⟨m, b⟩ := K _ h o h1 e
      refine ⟨m, fun H locs R C q1 q2 q3 q4 q5 q6 q7 q8 q9 => ?_⟩
      obtain ⟨ht, cell, hc, hcl, hvs, hvu, hsz, hrd⟩ := (q2.2.2.2.2.2 a _ ha).1
      exact W.lald (v := .long (f i.toNatClampNeg)) C.1 C.2.1 hc (C.isArr (t := 2) (n := 0) ht hcl hvs) hvu (by rw [hsz]; exact xin_not hi) (hrd _ (xtop hi)) rfl rfl d (b H locs R C q1 q2 q3 q4 q5 q6 q7 q8 q9)
    · cases e
  · cases e
theorem xty_ref {t : Nat} (h : 3 ≤ t) : (xty t).isReference = true := by
  match t, h with
  | 3, _ => rfl
  | 4, _ => rfl
  | n + 5, _ => rfl
theorem xs_aald {t : Nat} {r : Option Nat} {i : Int32} {kk : Option Nat → XM} (h3 : 3 ≤ t) (d : decode δ.1 pc = .ok (.aaload, 1)) (K : ∀ x : Option Nat, xS Z κ μ δ (pc + 1) ls (va_rf x :: st) (kk x)) : xS Z κ μ δ pc ls (.int i :: va_rf r :: st) (xaR t r i kk) := by
  intro h o h1 e
  unfold xaR at e
  split at e
  · rename_i n f hx
    split at e
    · rename_i hi
      obtain ⟨a, rfl, ha⟩ := xarr_some hx
      obtain ⟨m, b⟩ := K _ h o h1 e
      refine ⟨m, fun H locs R C q1 q2 q3 q4 q5 q6 q7 q8 q9 => ?_⟩
      obtain ⟨ht, cell, hc, hcl, hvs, hvu, hsz, hrd⟩ := (q2.2.2.2.2.2 a _ ha).1
      exact W.aald (v := va_rf (f i.toNatClampNeg)) (ty := xty t) C.1 C.2.1 hc (C.isArr (t := t) (n := 0) ht hcl hvs) (xty_ref h3) hvu (by rw [hsz]; exact xin_not hi) (hrd _ (xtop hi)) rfl rfl d (b H locs R C q1 q2 q3 q4 q5 q6 q7 q8 q9)
    · cases e
  · cases e
theorem xB {h : XH} {H : Heap} {a : Nat} (q : xRel Z h H) (ha : h.2.2.2.1 ≤ a) : xfree Z a := by
  show Z.2.1.heap.size ≤ a
  rw [← q.2.2.2.2.1, ← q.2.2.2.1]
  exact ha
theorem xs_iast {r : Option Nat} {i x : Int32} (d : decode δ.1 pc = .ok (.iastore, 1)) (K : xS Z κ μ δ (pc + 1) ls st pr) : xS Z κ μ δ pc ls (.int x :: .int i :: va_rf r :: st) (xsI r i x pr) := by
  intro h o h1 e
  unfold xsI at e
  split at e
  · rename_i n f hx
    split at e
    · rename_i hi
      obtain ⟨a, rfl, ha⟩ := xarr_some hx
      obtain ⟨hi, hB⟩ := hi
      obtain ⟨m, b⟩ := K _ o h1 e
      refine ⟨m, fun H locs R C q1 q2 q3 q4 q5 q6 q7 q8 q9 => ?_⟩
      obtain ⟨ht, hc⟩ := (q2.2.2.2.2.2 a _ ha).2 (by rw [← q2.2.2.2.1]; exact hB)
      refine W.iast C.1 C.2.1 hc (C.arr ht n (fun j => .int (f j))) (fun q => by cases q) (by show ¬ (i < 0 ∨ (arrV _ _ _).slots.size ≤ _); rw [arrV_size]; exact xin_not hi) rfl rfl d fun H1 e1 z oq => ?_
      refine b H1 _ R C q1 (q2.set hB z oq ⟨ht, ?_⟩) (xfree_app q3 (xB q2 hB)) q4 q5 q6 q7 q8 q9
      show H1[a]? = some (vp_cell _ _)
      rw [e1]
      show some ((vp_cell _ _).setSlot _ _) = _
      rw [vp_cell_i, vp_cell_i, arrV_store]
      congr 2
      funext q
      by_cases hq : q = i.toNatClampNeg
      · subst hq
        simp [updV, upd]
      · simp [updV, upd, hq]
    · cases e
  · cases e
theorem xs_bast {r : Option Nat} {i x : Int32} (d : decode δ.1 pc = .ok (.bastore, 1)) (K : xS Z κ μ δ (pc + 1) ls st pr) : xS Z κ μ δ pc ls (.int x :: .int i :: va_rf r :: st) (xsB r i x pr) := by
  intro h o h1 e
  unfold xsB at e
  split at e
  · rename_i n f hx
    split at e
    · rename_i hi
      obtain ⟨a, rfl, ha⟩ := xarr_some hx
      obtain ⟨hi, hB⟩ := hi
      obtain ⟨m, b⟩ := K _ o h1 e
      refine ⟨m, fun H locs R C q1 q2 q3 q4 q5 q6 q7 q8 q9 => ?_⟩
      obtain ⟨ht, hc⟩ := (q2.2.2.2.2.2 a _ ha).2 (by rw [← q2.2.2.2.1]; exact hB)
      refine W.bast C.1 C.2.1 hc (C.arr ht n (fun j => .int (f j))) (fun q => by cases q) (by show ¬ (i < 0 ∨ (arrV _ _ _).slots.size ≤ _); rw [arrV_size]; exact xin_not hi) rfl rfl d fun H1 e1 z oq => ?_
      refine b H1 _ R C q1 (q2.set hB z oq ⟨ht, ?_⟩) (xfree_app q3 (xB q2 hB)) q4 q5 q6 q7 q8 q9
      show H1[a]? = some (vp_cell _ _)
      rw [e1]
      have hnv : narrow .byte (.int x) = .int (vp_nar .byte x) := by
        rw [vp_nar_byte]
        rfl
      rw [hnv]
      show some ((vp_cell _ _).setSlot _ _) = _
      rw [vp_cell_i, vp_cell_i, arrV_store]
      congr 2
      funext q
      by_cases hq : q = i.toNatClampNeg
      · subst hq
        simp [updV, upd]
      · simp [updV, upd, hq]
    · cases e
  · cases e
theorem xs_last {r : Option Nat} {i : Int32} {x : Int64} (d : decode δ.1 pc = .ok (.lastore, 1)) (K : xS Z κ μ δ (pc + 1) ls st pr) : xS Z κ μ δ pc ls (.long x :: .int i :: va_rf r :: st) (xsL r i x pr) := by
  intro h o h1 e
  unfold xsL at e
  split at e
  · rename_i n f hx
    split at e
    · rename_i hi
      obtain ⟨a, rfl, ha⟩ := xarr_some hx
      obtain ⟨hi, hB⟩ := hi
      obtain ⟨m, b⟩ := K _ o h1 e
      refine ⟨m, fun H locs R C q1 q2 q3 q4 q5 q6 q7 q8 q9 => ?_⟩
      obtain ⟨ht, hc⟩ := (q2.2.2.2.2.2 a _ ha).2 (by rw [← q2.2.2.2.1]; exact hB)
      refine W.last C.1 C.2.1 hc (C.arr ht n (fun j => .long (f j))) (fun q => by cases q) (by show ¬ (i < 0 ∨ (arrV _ _ _).slots.size ≤ _); rw [arrV_size]; exact xin_not hi) rfl rfl d fun H1 e1 z oq => ?_
      refine b H1 _ R C q1 (q2.set hB z oq ⟨ht, ?_⟩) (xfree_app q3 (xB q2 hB)) q4 q5 q6 q7 q8 q9
      show H1[a]? = some (vp_cell _ _)
      rw [e1]
      show some ((vp_cell _ _).setSlot _ _) = _
      rw [vp_cell_l, vp_cell_l, arrV_store]
      congr 2
      funext q
      by_cases hq : q = i.toNatClampNeg
      · subst hq
        simp [updV, vp_updL]
      · simp [updV, vp_updL, hq]
    · cases e
  · cases e
theorem xs_len {t : Nat} {r : Option Nat} {kk : Int32 → XM} (d : decode δ.1 pc = .ok (.arraylength, 1)) (K : ∀ x : Int32, xS Z κ μ δ (pc + 1) ls (.int x :: st) (kk x)) : xS Z κ μ δ pc ls (va_rf r :: st) (xlen t r kk) := by
  intro h o h1 e
  unfold xlen at e
  split at e
  · rename_i v hx
    obtain ⟨a, rfl, ha⟩ := xarr_some hx
    obtain ⟨m, b⟩ := K _ h o h1 e
    refine ⟨m, fun H locs R C q1 q2 q3 q4 q5 q6 q7 q8 q9 => ?_⟩
    obtain ⟨ht, cell, hc, hcl, hvs, hvu, hsz, hrd⟩ := (q2.2.2.2.2.2 a _ ha).1
    exact W.alen C.1 C.2.1 hc (C.isArr (t := t) (n := 0) ht hcl hvs) (by rw [hsz]) rfl rfl d (b H locs R C q1 q2 q3 q4 q5 q6 q7 q8 q9)
  · cases e
/-- the counts behind a new cell -/
theorem xW.add {R : Room} {H : Heap} {locs : List Loc} {Q : State → Prop} {g : JFrame} {h : XH} {e : XE} {n : Nat} (q4 : μ.1 ≤ h.2.1) (q5 : μ.2.1 ≤ h.2.2.1) (k : xW κ R H locs ((xadd h e n).2.1 - μ.1) ((xadd h e n).2.2.1 - μ.2.1) Q g) : xW κ R H locs (h.2.1 - μ.1 + 1) (h.2.2.1 - μ.2.1 + n) Q g := by
  have e1 : (xadd h e n).2.1 - μ.1 = h.2.1 - μ.1 + 1 := by show h.2.1 + 1 - μ.1 = _; omega
  have e2 : (xadd h e n).2.2.1 - μ.2.1 = h.2.2.1 - μ.2.1 + n := by show h.2.2.1 + n - μ.2.1 = _; omega
  rw [e1, e2] at k
  exact k
theorem xadd_mono {h : XH} {e : XE} {n : Nat} : xMono h (xadd h e n) := ⟨Nat.le_succ _, Nat.le_add_right _ _⟩
/-- a class that is made at the entry 'index' of own -/
def xLN (own : String) (c index N : Nat) (fs : List Value) : Prop := ∃ (C : String) (T : u_T) (tys : Nat → FieldType), xcl[c]? = some (C, T, N) ∧ (∀ w ∈ u_ws C T N, w ∈ lw_all) ∧ (∀ k, k < N → parseFieldDescriptor (T k).2.2.1 = some (tys k)) ∧
  (∀ j, j < N → defaultValue (tys j) = vp_V fs j) ∧ fs.length = N ∧ Cond.classLink own index C ∈ lw_all ∧ Cond.instantiable C N ∈ lw_all ∧ Cond.initialized C ∈ lw_all
theorem xs_new {c index N : Nat} {fs : List Value} {kk : Option Nat → XM} (L : xLN δ.2.2.1 c index N fs) (d : decode δ.1 pc = .ok (.new index, 3)) (K : ∀ q : Option Nat, xS Z κ μ δ (pc + 3) ls (va_rf q :: st) (kk q)) : xS Z κ μ δ pc ls st (xnew c fs kk) := by
  intro h o h1 e
  unfold xnew at e
  obtain ⟨m, b⟩ := K _ _ o h1 e
  obtain ⟨Cn, T, tys, hc, hin, hty, hdf, hN, w1, w2, w3⟩ := L
  rw [hN] at e m b
  refine ⟨xMono.tr xadd_mono m, fun H locs R C q1 q2 q3 q4 q5 q6 q7 q8 q9 => ?_⟩
  have hKn := C.K.1 c _ hc
  have m1 : h.2.1 + 1 ≤ h1.2.1 := m.1
  have m2 : h.2.2.1 + N ≤ h1.2.2.1 := m.2
  refine W.newcK C.1 C.2.1 C.own (C.ws _ w1) (C.ws _ w2) (C.ws _ w3) rfl d (by omega) (by omega) hKn.2.1 rfl fun H1 kC hkC e1 z1 o1 => ?_
  have hb := b H1 locs R C q1 (q2.add z1 o1 (xSt.ofObj hc ⟨_, hc, (u_born tys C.ws hin hKn hkC e1 hty).to hdf⟩)) q3 (Nat.le_trans q4 (Nat.le_succ _)) (Nat.le_trans q5 (Nat.le_add_right _ _)) q6 q7 q8 q9
  have hh : H.size = h.2.1 := q2.1
  rw [hh]
  exact xW.add q4 q5 hb
theorem xzero_cell (D : XD) (t n : Nat) : vp_cell (D.2.1 t) (xzero t n) = arrV (D.2.1 t) n (fun _ => defaultValue (xty t)) := by
  match t with
  | 0 => rfl
  | 1 => rfl
  | 2 => rfl
  | 3 => rfl
  | 4 => rfl
  | n + 5 => rfl
theorem xs_newa {t : Nat} {atype : ArrayType} {n : Int32} {kk : Option Nat → XM} (hty : newarray.typeOf atype = xty t) (ht : t < 3) (w : Cond.arrayClass (xty t) ∈ lw_all) (d : decode δ.1 pc = .ok (.newarray atype, 2)) (K : ∀ q : Option Nat, xS Z κ μ δ (pc + 2) ls (va_rf q :: st) (kk q)) : xS Z κ μ δ pc ls (.int n :: st) (xnewa t n kk) := by
  intro h o h1 e
  unfold xnewa at e
  split at e
  · cases e
  · rename_i hn
    obtain ⟨m, b⟩ := K _ _ o h1 e
    refine ⟨xMono.tr xadd_mono m, fun H locs R C q1 q2 q3 q4 q5 q6 q7 q8 q9 => ?_⟩
    have h0 : ¬ n < 0 := fun z => hn (Or.inl z)
    have h65 : n.toNatClampNeg ≤ 65536 := Nat.not_lt.mp fun z => hn (Or.inr z)
    have m1 : h.2.1 + 1 ≤ h1.2.1 := m.1
    have m2 : h.2.2.1 + n.toNatClampNeg ≤ h1.2.2.1 := m.2
    have hcb : n.toNatClampNeg * componentBytes (newarray.typeOf atype) ≤ 536870912 := by
      have h8 : componentBytes (newarray.typeOf atype) ≤ 8 := by cases atype <;> decide
      exact Nat.le_trans (Nat.mul_le_mul h65 h8) (Nat.le_of_ble_eq_true rfl)
    refine va_newaK C.1 C.2.1 (by rw [hty]; exact C.ws _ w) rfl d rfl h0 rfl hcb (by omega) (by omega) rfl fun H1 cA e1 z1 o1 hAr hNm => ?_
    have hcA : cA = Z.1.2.1 t := by
      have h9 := (C.K.2 t _ (xtys_at Z.1 (show t < 6 by omega))).2
      rw [hty] at hNm
      match t, ht with
      | 0, _ => exact Option.some.inj (hNm.symm.trans h9)
      | 1, _ => exact Option.some.inj (hNm.symm.trans h9)
      | 2, _ => exact Option.some.inj (hNm.symm.trans h9)
    subst hcA
    have hb := b H1 locs R C q1 (q2.add z1 o1 ⟨by show t < 6; omega, by show H1[H.size]? = some (vp_cell _ _); rw [xzero_cell, ← hty]; exact e1⟩) q3 (Nat.le_trans q4 (Nat.le_succ _)) (Nat.le_trans q5 (Nat.le_add_right _ _)) q6 q7 q8 q9
    have hh : H.size = h.2.1 := q2.1
    rw [hh]
    exact xW.add q4 q5 hb
/-- anewarray of Object -/
theorem xs_newq {index : Nat} {n : Int32} {kk : Option Nat → XM} (w1 : Cond.classLink δ.2.2.1 index "java/lang/Object" ∈ lw_all) (w2 : Cond.arrayOver (.object "java/lang/Object") ∈ lw_tbl) (d : decode δ.1 pc = .ok (.anewarray index, 3)) (K : ∀ q : Option Nat, xS Z κ μ δ (pc + 3) ls (va_rf q :: st) (kk q)) : xS Z κ μ δ pc ls (.int n :: st) (xnewa 3 n kk) := by
  intro h o h1 e
  unfold xnewa at e
  split at e
  · cases e
  · rename_i hn
    obtain ⟨m, b⟩ := K _ _ o h1 e
    refine ⟨xMono.tr xadd_mono m, fun H locs R C q1 q2 q3 q4 q5 q6 q7 q8 q9 => ?_⟩
    have h0 : ¬ n < 0 := fun z => hn (Or.inl z)
    have h65 : n.toNatClampNeg ≤ 65536 := Nat.not_lt.mp fun z => hn (Or.inr z)
    have m1 : h.2.1 + 1 ≤ h1.2.1 := m.1
    have m2 : h.2.2.1 + n.toNatClampNeg ≤ h1.2.2.1 := m.2
    have hAO : va_AO "java/lang/Object" Z.2.1 := va_AO.of (C.G.2.1 _ w2)
    refine W.anew C.1 C.2.1 C.own (C.ws _ w1) (va_AO.use (va_AO.moved C.W.alike hAO)) rfl d rfl h0 (by omega) (by omega) (by omega) fun cA kA comp f1 f2 f3 f4 => ?_
    have hcA : cA = Z.1.2.1 3 := by
      obtain ⟨kA9, comp9, -, -, -, h9⟩ := (C.K.2 3 _ (xtys_at Z.1 (show 3 < 6 by omega))).2
      exact Option.some.inj (f1.symm.trans h9)
    subst hcA
    generalize hH1 : H.push ({ cls := Z.1.2.1 3, slots := Array.replicate n.toNatClampNeg .null, vm := .none } : Cell) = H1
    have z1 : H1.size = H.size + 1 := by rw [← hH1, Array.size_push]
    have e1 : H1[H.size]? = some (arrV (Z.1.2.1 3) n.toNatClampNeg (fun _ => .null)) := by rw [← hH1, Array.getElem?_push_size, ← arrV_new]
    have o1 : ∀ q : Nat, q < H.size → H1[q]? = H[q]? := fun q hq => by rw [← hH1, Array.getElem?_push, if_neg (Nat.ne_of_lt hq)]
    have hb := b H1 locs R C q1 (q2.add z1 o1 ⟨by show 3 < 6; omega, by show H1[H.size]? = some (vp_cell _ _); rw [xzero_cell]; exact e1⟩) q3 (Nat.le_trans q4 (Nat.le_succ _)) (Nat.le_trans q5 (Nat.le_add_right _ _)) q6 q7 q8 q9
    have hh : H.size = h.2.1 := q2.1
    rw [hh]
    exact xW.add q4 q5 hb
/-- a grid: arrays in an array -/
def xgridH (h : XH) (t ti N M : Nat) : XH := (fun q => if q = h.2.1 then some (.inl (t, (N, .inr (.inr (.inr (.inr fun j => if j < N then some (h.2.1 + 1 + j) else none)))))) else if h.2.1 < q ∧ q ≤ h.2.1 + N then some (.inl (ti, xzero ti M)) else h.1 q, h.2.1 + (1 + N), h.2.2.1 + (N + N * M), h.2.2.2)
def xgrid (t ti : Nat) (n k : Int32) (kk : Option Nat → XM) : XM := fun h => if (n < 0 ∨ k < 0) ∨ (65536 < n.toNatClampNeg ∨ 65536 < k.toNatClampNeg) then none else kk (some h.2.1) (xgridH h t ti n.toNatClampNeg k.toNatClampNeg)
theorem xcell_ext {a b : Cell} (h1 : a.cls = b.cls) (h2 : a.vm = b.vm) (h3 : a.slots = b.slots) (h4 : a = { cls := a.cls, slots := a.slots, vm := a.vm }) (h5 : b = { cls := b.cls, slots := b.slots, vm := b.vm }) : a = b := by
  rw [h4, h5, h1, h2, h3]
theorem xouter_plain (c : ClassId) (N h0 : Nat) : ∀ i, Jvm.Free.Multi.outerC c N h0 i = { cls := (Jvm.Free.Multi.outerC c N h0 i).cls, slots := (Jvm.Free.Multi.outerC c N h0 i).slots, vm := (Jvm.Free.Multi.outerC c N h0 i).vm }
  | 0 => rfl
  | i + 1 => by
    show (Jvm.Free.Multi.outerC c N h0 i).setSlot i _ = _
    rw [xouter_plain c N h0 i]
    rfl
theorem xouter (c : ClassId) (N h0 : Nat) : Jvm.Free.Multi.outerC c N h0 N = vp_cell c (N, .inr (.inr (.inr (.inr fun j => if j < N then some (h0 + 1 + j) else none)))) := by
  obtain ⟨f1, f2, f3⟩ := Jvm.Free.Multi.outerC_facts c N h0 N
  refine xcell_ext (b := vp_cell c (N, .inr (.inr (.inr (.inr fun j => if j < N then some (h0 + 1 + j) else none))))) f1 f2 ?_ (xouter_plain c N h0 N) rfl
  rw [vp_cell_q]
  apply Array.ext
  · rw [f3, arrV_size]
  · intro i hi hi2
    rw [f3] at hi
    have g1 := Jvm.Free.Multi.outerC_slot c N h0 N i hi
    rw [if_pos hi] at g1
    have g2 : (arrV c N (fun j => va_rf (if j < N then some (h0 + 1 + j) else none))).slots[i]? = some (va_rf (if i < N then some (h0 + 1 + i) else none)) := by rw [arrV_read _ _ hi]
    rw [if_pos hi] at g2
    have g3 := g1.trans g2.symm
    rw [Array.getElem?_eq_getElem (by omega), Array.getElem?_eq_getElem hi2] at g3
    exact Option.some.inj g3
theorem xover_spec {args : Array Value} {s : State} {t : FieldType} (h : (Cond.arrayOver (.array t)).before args s = true) :
    ∃ comp c k, s.vm.findClass (FieldType.array t).toString = some comp ∧ (s.vm.classes.findIdx? fun (x : Class) => match x.kind with | .array component _ => component == comp | _ => false) = some c ∧ s.vm.classes[c]? = some k ∧ k.kind = .array comp (.array t) ∧ s.vm.findClass ("[" ++ (FieldType.array t).toString) = some c := by
  unfold Cond.before Cond.holds at h
  simp only [Cond.value, beq_iff_eq] at h
  cases hc : s.vm.findClass (FieldType.array t).toString with
  | none => simp [hc] at h
  | some comp =>
    simp only [hc, Option.bind_some, Option.bind_eq_some_iff, Option.map_eq_some_iff] at h
    obtain ⟨c, hi, k, hk, hb⟩ := h
    obtain ⟨hlt, hp, -⟩ := Array.findIdx?_eq_some_iff_getElem.mp hi
    have hkk : s.vm.classes[c] = k := (Array.getElem?_eq_some_iff.mp hk).2
    rw [hkk] at hp
    cases hkind : k.kind with
    | array component ty =>
      rw [hkind] at hb hp
      simp at hb hp
      exact ⟨comp, c, k, rfl, hi, hk, by rw [hkind, hp, hb.1], hb.2⟩
    | _ => rw [hkind] at hb; simp at hb
theorem xover_moved {t : FieldType} {a A : Array Value} {u U : State} (hvm : u.vm.Alike U.vm) (h : (Cond.arrayOver (.array t)).before a u = true) : (Cond.arrayOver (.array t)).before A U = true := by
  obtain ⟨comp, c, k, h1, h2, h3, h4, h5⟩ := xover_spec h
  obtain ⟨k', hk', he⟩ := hvm.2.2 _ _ h3
  have hi : (U.vm.classes.findIdx? fun (x : Class) => match x.kind with | .array component _ => component == comp | _ => false) = some c := by
    have e0 := va_idx_bare U.vm comp
    have e1 := va_idx_bare u.vm comp
    first | rw [show U.vm.bare = u.vm.bare from hvm.bare_eq] at e0 | rw [show U.vm.bare = u.vm.bare from hvm.bare_eq.symm] at e0
    exact (e0.symm.trans e1).trans h2
  have hkind : k'.kind = .array comp (.array t) := by rw [he]; exact h4
  have f1 : U.vm.findClass (FieldType.array t).toString = some comp := by rw [hvm.findClass]; exact h1
  have f2 : U.vm.findClass ("[" ++ (FieldType.array t).toString) = some c := by rw [hvm.findClass]; exact h5
  unfold Cond.before Cond.holds
  simp only [Cond.value]
  rw [f1, Option.bind_some]
  refine (congrArg (fun o : Option Nat => (o.bind (fun c => (U.vm.classes[c]?).map fun (k : Class) => match k.kind with | .array _ ty => decide (ty = FieldType.array t) && decide (U.vm.findClass ("[" ++ (FieldType.array t).toString) = some c) | _ => false) == some true)) hi).trans ?_
  simp [hk', hkind, f2]
theorem xs_grid {t ti : Nat} {index : Nat} {n k : Int32} {kk : Option Nat → XM} (ht : (t = 4 ∧ ti = 0) ∨ (t = 5 ∧ ti = 2)) (w1 : Cond.classLink δ.2.2.1 index ("[" ++ (FieldType.array (xty ti)).toString) ∈ lw_all) (w2 : Cond.arrayOver (.array (xty ti)) ∈ lw_tbl) (w3 : Cond.arrayClass (xty ti) ∈ lw_all) (d : decode δ.1 pc = .ok (.multianewarray index 2, 4)) (K : ∀ q : Option Nat, xS Z κ μ δ (pc + 4) ls (va_rf q :: st) (kk q)) : xS Z κ μ δ pc ls (.int k :: .int n :: st) (xgrid t ti n k kk) := by
  intro h o h1 e
  unfold xgrid at e
  split at e
  · cases e
  · rename_i hn
    obtain ⟨m, b⟩ := K _ _ o h1 e
    have m0 : xMono h (xgridH h t ti n.toNatClampNeg k.toNatClampNeg) := ⟨Nat.le_add_right _ _, Nat.le_add_right _ _⟩
    refine ⟨xMono.tr m0 m, fun H locs R C q1 q2 q3 q4 q5 q6 q7 q8 q9 => ?_⟩
    have h0 : ¬ n < 0 := fun z => hn (Or.inl (Or.inl z))
    have h0' : ¬ k < 0 := fun z => hn (Or.inl (Or.inr z))
    have h65 : n.toNatClampNeg ≤ 65536 := Nat.not_lt.mp fun z => hn (Or.inr (Or.inl z))
    have h65' : k.toNatClampNeg ≤ 65536 := Nat.not_lt.mp fun z => hn (Or.inr (Or.inr z))
    generalize hN : n.toNatClampNeg = N at *
    generalize hM : k.toNatClampNeg = M at *
    have m1 : h.2.1 + (1 + N) ≤ h1.2.1 := m.1
    have m2 : h.2.2.1 + (N + N * M) ≤ h1.2.2.1 := m.2
    have w2' : (Cond.arrayOver (.array (xty ti))).before κ.2.2.2.2.2.1 κ.2.2.2.1 = true := by
      exact xover_moved C.W.alike (C.G.2.1 _ w2)
    intro T hT X
    have hcb : M * componentBytes (xty ti) ≤ 536870912 := by
      have h8 : componentBytes (xty ti) ≤ 8 := by rcases ht with ⟨-, rfl⟩ | ⟨-, rfl⟩ <;> decide
      exact Nat.le_trans (Nat.mul_le_mul h65' h8) (Nat.le_of_ble_eq_true rfl)
    obtain ⟨vm₁, cA, comp, hW1, hfA, hfC, -, -, X1, step⟩ := X.multianewarray2F C.1 C.own (C.ws _ w1) w2' (C.ws _ w3) (g := F0 κ.2.2.2.2.1 pc ls (.int k :: .int n :: st)) rfl (by show decode κ.2.2.2.2.2.2.2.2.code pc = _; rw [C.2.1]; exact d) (n := n) (k := k) (rest := st) rfl h0 h0' (by rw [hN]; omega) (by rw [hM]; exact hcb) (by rw [hM]; omega)
      (by rcases ht with ⟨-, rfl⟩ | ⟨-, rfl⟩ <;> rfl) (by rcases ht with ⟨-, rfl⟩ | ⟨-, rfl⟩ <;> rfl) (by rw [hN]; omega) (by rw [hN, hM]; omega)
    have hA : cA = Z.1.2.1 t := by
      rcases ht with ⟨rfl, rfl⟩ | ⟨rfl, rfl⟩
      · exact Option.some.inj (hfA.symm.trans (C.K.2 4 _ (xtys_at Z.1 (by omega))).2)
      · exact Option.some.inj (hfA.symm.trans (C.K.2 5 _ (xtys_at Z.1 (by omega))).2)
    have hI : comp = Z.1.2.1 ti := by
      rcases ht with ⟨rfl, rfl⟩ | ⟨rfl, rfl⟩
      · exact Option.some.inj (hfC.symm.trans (C.K.2 0 _ (xtys_at Z.1 (by omega))).2)
      · exact Option.some.inj (hfC.symm.trans (C.K.2 2 _ (xtys_at Z.1 (by omega))).2)
    subst hA
    subst hI
    have hti : ti < 6 ∧ t < 6 := by rcases ht with ⟨rfl, rfl⟩ | ⟨rfl, rfl⟩ <;> omega
    rw [hN, hM] at X1 step
    generalize hF : Jvm.Free.Multi.fill (T.setVm vm₁) (Z.1.2.1 t) (Z.1.2.1 ti) N M (defaultValue (xty ti)) N = F at X1 step
    have hTs : (T.setVm vm₁).heap = H := hT
    have f1 : F.heap.size = H.size + 1 + N := by
      have := (Jvm.Free.Multi.fill_facts (T.setVm vm₁) (Z.1.2.1 t) (Z.1.2.1 ti) N M (defaultValue (xty ti)) N).1
      rw [hF, hTs] at this
      exact this
    have f2 : F.heap[H.size]? = some (Jvm.Free.Multi.outerC (Z.1.2.1 t) N H.size N) := by
      have := (Jvm.Free.Multi.fill_facts (T.setVm vm₁) (Z.1.2.1 t) (Z.1.2.1 ti) N M (defaultValue (xty ti)) N).2.1
      rw [hF, hTs] at this
      exact this
    have f3 : ∀ a : Nat, a < H.size → F.heap[a]? = H[a]? := fun a ha => by
      have := Jvm.Free.Multi.fill_old (T.setVm vm₁) (Z.1.2.1 t) (Z.1.2.1 ti) N M (defaultValue (xty ti)) (a := a) (by rw [hTs]; exact ha) N
      rw [hF, hTs] at this
      exact this
    have f4 : ∀ j : Nat, j < N → F.heap[H.size + 1 + j]? = some (Jvm.Free.Multi.innerC (Z.1.2.1 ti) M (defaultValue (xty ti))) := fun j hj => by
      have := Jvm.Free.Multi.fill_inner (T.setVm vm₁) (Z.1.2.1 t) (Z.1.2.1 ti) N M (defaultValue (xty ti)) N j hj
      rw [hF, hTs] at this
      exact this
    have hh : H.size = h.2.1 := q2.1
    have hR2 : xRel Z (xgridH h t ti N M) F.heap := by
      obtain ⟨r1, r2, r3, r4, r5, r6⟩ := q2
      refine ⟨by rw [f1, r1]; show h.2.1 + 1 + N = h.2.1 + (1 + N); omega, by omega, fun q hq => ?_, r4, r5, fun a x hx => ?_⟩
      · rw [f3 q (Nat.lt_of_lt_of_le hq r2)]
        exact r3 q hq
      · unfold xgridH at hx
        dsimp only at hx
        split at hx
        · rename_i ha
          cases hx
          subst ha
          refine xAt.of ⟨hti.2, ?_⟩
          rw [← hh, f2, xouter]
        · split at hx
          · rename_i ha
            cases hx
            refine xAt.of ⟨hti.1, ?_⟩
            have hj := f4 (a - H.size - 1) (by omega)
            rw [show H.size + 1 + (a - H.size - 1) = a by omega] at hj
            rw [hj, xzero_cell, ← arrV_new]
            rfl
          · exact (r6 a x hx).kept (f3 a (r6 a x hx).lt)
    have hb := b F.heap locs R C q1 hR2 q3 (Nat.le_trans q4 m0.1) (Nat.le_trans q5 m0.2) q6 q7 q8 q9
    have e1 : (xgridH h t ti N M).2.1 - μ.1 = h.2.1 - μ.1 + 1 + N := by show h.2.1 + (1 + N) - μ.1 = _; omega
    have e2 : (xgridH h t ti N M).2.2.1 - μ.2.1 = h.2.2.1 - μ.2.1 + N + N * M := by show h.2.2.1 + (N + N * M) - μ.2.1 = _; omega
    rw [e1, e2] at hb
    obtain ⟨t9, a9, b9⟩ := hb F rfl X1
    refine ⟨t9, step t9 ?_, b9⟩
    rw [hT, hh]
    exact a9
end XAR
