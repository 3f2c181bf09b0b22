/-! constants, casts, stores of references, copies over xS -/
section XMI
variable {Z : XZ} {κ : XK} {μ : XU} {δ : XT} {pc : Nat} {ls : Array Slot} {st rest : List Value} {pr : XM} {fr0 lo0 index : Nat}
/-- a premise of the Statement -/
theorem xpre {c : Cond} (h : c ∈ flatC (Jvm.Cond.and given_1 narrow_1)) (G : xG Z) : c.before Z.2.2.2.1 Z.2.1 = true := flat_of_before _ G.2.2.2.1 _ h
theorem xgets_core {C n d : String} {v : Value} {R : Room} {H : Heap} {h : XH} {locs : List Loc} {cells slots : Nat} {Q : State → Prop} (hC : xC Z κ δ) (hZ : va_Z C n d v (xfree Z) Z.2.1 Z.2.1.heap) (hl : Cond.fieldLink δ.2.2.1 index C n d ∈ lw_all) (dd : decode δ.1 pc = .ok (.getstatic index, 3)) (q2 : xRel Z h H)
    (kk : xW κ R H locs cells slots Q (F0 κ.2.2.2.2.1 (pc + 3) ls (v :: st))) : xW κ R H locs cells slots Q (F0 κ.2.2.2.2.1 pc ls st) := by
  obtain ⟨cf, kf, fi, f, a, cell, h1, h2, h3, h4, h5, h6, h7, h8⟩ := va_Z.moved hC.W.alike hZ
  exact W.gets hC.1 hC.2.1 hC.own (hC.ws _ hl) h1 h2 h3 h4 (by rw [q2.2.2.1 a (Array.getElem?_eq_some_iff.mp h5).1]; exact h5) (fun e => by rw [e] at h6; cases h6) h7 rfl dd kk
/-- a static number -/
def xKI (C n d : String) (z : Int32) : Prop := ∀ Z : XZ, xG Z → va_Z C n d (.int z) (xfree Z) Z.2.1 Z.2.1.heap
theorem xKI.of {C n d : String} {z : Int32} (w1 : Cond.laysStatic C n d ∈ lw_tbl) (w2 : Cond.initialized C ∈ lw_tbl) (h : Cond.eq (.static C n d) (.int z) ∈ flatC (Jvm.Cond.and given_1 narrow_1)) : xKI C n d z := fun Z G =>
  va_Zof (G.2.1 _ w1) (G.2.1 _ w2) (va_eqi (xpre h G)) (fun a ha hf => absurd hf (Nat.not_le.mpr ha))
theorem xs_getsI {C n d : String} {z : Int32} (hp : xKI C n d z) (hl : Cond.fieldLink δ.2.2.1 index C n d ∈ lw_all) (dd : decode δ.1 pc = .ok (.getstatic index, 3)) (K : xS Z κ μ δ (pc + 3) ls (.int z :: st) pr) : xS Z κ μ δ pc ls st pr := by
  intro h o h1 e
  obtain ⟨m, b⟩ := K h o h1 e
  exact ⟨m, fun H locs R C q1 q2 q3 q4 q5 q6 q7 q8 q9 => xgets_core C (hp Z C.G) hl dd q2 (b H locs R C q1 q2 q3 q4 q5 q6 q7 q8 q9)⟩
/-- a static reference: the constant i of the run -/
def xKS (i : Nat) (C n d : String) : Prop := ∀ Z : XZ, xG Z → va_Z C n d (va_rf (Z.2.2.1.2 i)) (xfree Z) Z.2.1 Z.2.1.heap
theorem xKS.of {i : Nat} {C n d : String} (hi : i < 40) (ht : xterm i = some (.static C n d)) (w1 : Cond.laysStatic C n d ∈ lw_tbl) (w2 : Cond.initialized C ∈ lw_tbl) (h : Cond.isRef (.static C n d) ∈ flatC (Jvm.Cond.and given_1 narrow_1)) : xKS i C n d := fun Z G => by
  have hv : (Term.static C n d).eval Z.2.2.2.1 Z.2.1 none [] Z.2.1 = some (va_rf (Z.2.2.1.2 i)) := by
    have h1 := xpre h G
    rw [G.2.2.2.2.1]
    unfold xcon xconT
    rw [if_pos hi, ht]
    dsimp only
    cases hv : (Term.static C n d).eval Z.2.2.2.1 Z.2.1 none [] Z.2.1 with
    | none => simp [Cond.before, Cond.holds, Cond.value, hv] at h1
    | some w => cases w <;> simp [Cond.before, Cond.holds, Cond.value, hv] at h1 <;> rfl
  exact va_Zof (G.2.1 _ w1) (G.2.1 _ w2) hv (fun a ha hf => absurd hf (Nat.not_le.mpr ha))
theorem xs_getsR {i : Nat} {C n d : String} {kk : Option Nat → XM} (hp : xKS i C n d) (hl : Cond.fieldLink δ.2.2.1 index C n d ∈ lw_all) (dd : decode δ.1 pc = .ok (.getstatic index, 3)) (K : ∀ x : Option Nat, xS Z κ μ δ (pc + 3) ls (va_rf x :: st) (kk x)) : xS Z κ μ δ pc ls st (xK i kk) := by
  intro h o h1 e
  unfold xK at e
  obtain ⟨m, b⟩ := K _ h o h1 e
  exact ⟨m, fun H locs R C q1 q2 q3 q4 q5 q6 q7 q8 q9 => xgets_core C (by have := hp Z C.G; rw [← q2.2.2.2.1] at this; exact this) hl dd q2 (b H locs R C q1 q2 q3 q4 q5 q6 q7 q8 q9)⟩
/-- a String constant: the constant i of the run -/
def xKT (i : Nat) (own : String) (k : Nat) (tx : String) : Prop := ∀ Z : XZ, xG Z → ∃ q : Nat, Z.2.2.1.2 i = some q ∧ vk_R own k tx q Z.2.1
theorem xeval_ex {a : Array Value} {s : State} {t : Term} {C : String} (h : (Cond.exactly t C).before a s = true) : ∃ q : Nat, t.eval a s none [] s = some (.ref q) := by
  obtain ⟨q, _, _, _, h1, -⟩ := Cond.exactly_spec h
  exact ⟨q, h1⟩
theorem xvkR {own tx : String} {k a : Nat} {A : Array Value} {U : State} (h1 : (Cond.stringRef own k tx).before A U = true) (h2 : (Term.string own k).eval A U none [] U = some (.ref a)) : vk_R own k tx a U := ⟨by
    simp only [Cond.before, Cond.holds, Cond.value] at h1 ⊢
    exact h1, by
    rw [Term.string_eval_of_vm (args := A) (U := U) rfl]
    exact h2⟩
theorem xKT.of {i k : Nat} {own tx : String} (hi : i < 40) (ht : xterm i = some (.string own k)) (w : Cond.stringRef own k tx ∈ lw_tbl) (h : Cond.exactly (.string own k) "java/lang/String" ∈ flatC (Jvm.Cond.and given_1 narrow_1)) : xKT i own k tx := fun Z G => by
  obtain ⟨q, hq⟩ := xeval_ex (xpre h G)
  refine ⟨q, ?_, xvkR (G.2.1 _ w) hq⟩
  rw [G.2.2.2.2.1]
  unfold xcon xconT
  rw [if_pos hi, ht]
  dsimp only
  rw [hq]
theorem xs_ldcS {i k : Nat} {tx : String} {kk : Option Nat → XM} (hp : xKT i δ.2.2.1 k tx) (dd : decode δ.1 pc = .ok (.ldc k, 2)) (K : ∀ x : Option Nat, xS Z κ μ δ (pc + 2) ls (va_rf x :: st) (kk x)) : xS Z κ μ δ pc ls st (xK i kk) := by
  intro h o h1 e
  unfold xK at e
  obtain ⟨m, b⟩ := K _ h o h1 e
  refine ⟨m, fun H locs R C q1 q2 q3 q4 q5 q6 q7 q8 q9 => ?_⟩
  obtain ⟨q, hq, hv⟩ := hp Z C.G
  have hq2 : h.2.2.2.2 i = some q := by rw [q2.2.2.2.1]; exact hq
  have b := b H locs R C q1 q2 q3 q4 q5 q6 q7 q8 q9
  rw [hq2] at b
  exact va_ldcS C.1 C.2.1 C.own (vk_R.warm C.W hv) dd b
/-- casts -/
def xcast (r : Option Nat) (c : Nat) (kk : XM) : XM := fun h => match r with
  | none => kk h
  | some a => match h.1 a with
    | some (.inr o) => if o.1 = c then kk h else none
    | _ => none
theorem xs_cast {r : Option Nat} {c : Nat} {q : vw_C} (hc : xcl[c]? = some q) (w : Cond.classLink δ.2.2.1 index q.1 ∈ lw_all) (dd : decode δ.1 pc = .ok (.checkcast index, 3)) (K : xS Z κ μ δ (pc + 3) ls (va_rf r :: st) pr) : xS Z κ μ δ pc ls (va_rf r :: st) (xcast r c pr) := by
  intro h o h1 e
  unfold xcast at e
  split at e
  · obtain ⟨m, b⟩ := K h o h1 e
    exact ⟨m, fun H locs R C q1 q2 q3 q4 q5 q6 q7 q8 q9 => lv_castN C.1 C.2.1 dd (b H locs R C q1 q2 q3 q4 q5 q6 q7 q8 q9)⟩
  · rename_i a
    split at e
    · rename_i w9 hw
      split at e
      · rename_i hc2
        obtain ⟨c2, fs⟩ := w9
        dsimp only at hc2 e
        subst hc2
        obtain ⟨m, b⟩ := K h o h1 e
        exact ⟨m, fun H locs R C q1 q2 q3 q4 q5 q6 q7 q8 q9 => va_castS C.1 C.2.1 C.own (C.ws _ w) (C.at hc) (xrecv C q2 hw hc) dd (b H locs R C q1 q2 q3 q4 q5 q6 q7 q8 q9)⟩
      · cases e
    · cases e
def xcastA (r : Option Nat) (t : Nat) (kk : XM) : XM := fun h => match r with
  | none => kk h
  | some a => match xarr h (some a) t with
    | some _ => kk h
    | none => none
theorem xs_castA {r : Option Nat} {t : Nat} {nm : String} (hnm : (t = 1 ∧ nm = "[B") ∨ (t = 3 ∧ nm = "[Ljava/lang/Object;")) (w : Cond.classLink δ.2.2.1 index nm ∈ lw_all) (dd : decode δ.1 pc = .ok (.checkcast index, 3)) (K : xS Z κ μ δ (pc + 3) ls (va_rf r :: st) pr) : xS Z κ μ δ pc ls (va_rf r :: st) (xcastA r t pr) := by
  intro h o h1 e
  unfold xcastA at e
  split at e
  · obtain ⟨m, b⟩ := K h o h1 e
    exact ⟨m, fun H locs R C q1 q2 q3 q4 q5 q6 q7 q8 q9 => lv_castN C.1 C.2.1 dd (b H locs R C q1 q2 q3 q4 q5 q6 q7 q8 q9)⟩
  · rename_i a
    split at e
    · rename_i v hv
      obtain ⟨a9, ha9, ha⟩ := xarr_some hv
      cases ha9
      obtain ⟨m, b⟩ := K h o h1 e
      refine ⟨m, fun H locs R C q1 q2 q3 q4 q5 q6 q7 q8 q9 => ?_⟩
      obtain ⟨ht, cell, hc, hcl, hvs, hvu, -⟩ := (q2.2.2.2.2.2 a _ ha).1
      have hn : κ.2.2.2.1.vm.findClass nm = some cell.cls := by
        rw [hcl]
        rcases hnm with ⟨rfl, rfl⟩ | ⟨rfl, rfl⟩
        · exact (C.K.2 1 _ (xtys_at Z.1 (by omega))).2
        · obtain ⟨_, _, -, -, -, h9⟩ := (C.K.2 3 _ (xtys_at Z.1 (by omega))).2
          exact h9
      have b9 := b H locs R C q1 q2 q3 q4 q5 q6 q7 q8 q9
      intro T hT X
      obtain ⟨vm', X', st9⟩ := X.checkcastYes C.1 C.own (C.ws _ w) (by rw [hT]; exact hc) hvs hn (va_asg _ _) (g := F0 κ.2.2.2.2.1 pc ls (.ref a :: st)) rfl rfl (by rw [C.2.1]; exact dd)
      obtain ⟨t9, a1, b1⟩ := b9 (T.setVm vm') hT X'
      exact ⟨t9, st9 t9 a1, b1⟩
    · cases e
def xinst (r : Option Nat) (c : Nat) (kk : Int32 → XM) : XM := fun h => match r with
  | none => kk 0 h
  | some a => match h.1 a with
    | some (.inr o) => if o.1 = c then kk 1 h else none
    | _ => none
theorem xs_inst {r : Option Nat} {c : Nat} {q : vw_C} {kk : Int32 → XM} (hc : xcl[c]? = some q) (w : Cond.classLink δ.2.2.1 index q.1 ∈ lw_all) (dd : decode δ.1 pc = .ok (.instanceof index, 3)) (K : ∀ x : Int32, xS Z κ μ δ (pc + 3) ls (.int x :: st) (kk x)) : xS Z κ μ δ pc ls (va_rf r :: st) (xinst r c kk) := by
  intro h o h1 e
  unfold xinst at e
  split at e
  · obtain ⟨m, b⟩ := K 0 h o h1 e
    exact ⟨m, fun H locs R C q1 q2 q3 q4 q5 q6 q7 q8 q9 => lv_instN C.1 C.2.1 dd (b H locs R C q1 q2 q3 q4 q5 q6 q7 q8 q9)⟩
  · rename_i a
    split at e
    · rename_i w9 hw
      split at e
      · rename_i hc2
        obtain ⟨c2, fs⟩ := w9
        dsimp only at hc2 e
        subst hc2
        obtain ⟨m, b⟩ := K 1 h o h1 e
        exact ⟨m, fun H locs R C q1 q2 q3 q4 q5 q6 q7 q8 q9 => va_instS C.1 C.2.1 C.own (C.ws _ w) (C.at hc) (xrecv C q2 hw hc) dd (b H locs R C q1 q2 q3 q4 q5 q6 q7 q8 q9)⟩
      · cases e
    · cases e
theorem xcl_lt9 {c : Nat} {q : vw_C} (h : xcl[c]? = some q) : c < 17 := (List.getElem?_eq_some_iff.mp h).1
theorem xcastables : ∀ (c : Nat) (q : vw_C), xcl[c]? = some q → Cond.castable q.1 "java/lang/Object" ∈ lw_tbl := by
  intro c q h
  match c, h with
  | 0, h => cases h; exact q2089
  | 1, h => cases h; exact q2091
  | 2, h => cases h; exact q2092
  | 3, h => cases h; exact q2095
  | 4, h => cases h; exact q2097
  | 5, h => cases h; exact q2101
  | 6, h => cases h; exact q2102
  | 7, h => cases h; exact q2103
  | 8, h => cases h; exact q2104
  | 9, h => cases h; exact q2090
  | 10, h => cases h; exact q2094
  | 11, h => cases h; exact q2099
  | 12, h => cases h; exact q2098
  | 13, h => cases h; exact q2096
  | 14, h => cases h; exact q2093
  | 15, h => cases h; exact q2105
  | 16, h => cases h; exact q2106
  | c + 17, h => exact absurd (xcl_lt9 h) (by omega)
end XMI
