/-! making the JDK's exceptions over xS (printed by gen/mk.py) -/
def xmv (w : Cond) : Bool := goodWord w || (match w with
  | .declares _ => true
  | .castable _ _ => true
  | _ => false)
section XMV
variable {Z : XZ} {κ : XK} {μ : XU} {δ : XT} {pc : Nat} {ls : Array Slot} {rest : List Value} {fr0 lo0 : Nat}
theorem xmv_at (C : xC Z κ δ) {w : Cond} (h : w ∈ lw_tbl) (hm : xmv w = true) : w.before κ.2.2.2.2.2.1 κ.2.2.2.1 = true := by
  unfold xmv at hm
  rcases Bool.or_eq_true _ _ ▸ hm with g | g
  · exact C.ws _ (List.mem_filter.mpr ⟨h, g⟩)
  · cases w <;> first | (exact va_Nw.use rfl (va_Nw.warmD C.W (C.tbl h rfl))) | (exact va_Nw.use rfl (va_Nw.warmC C.W (C.tbl h rfl))) | (exact absurd g (by simp))
theorem xZq_at (C : xC Z κ δ) {n d : String} (w1 : Cond.laysStatic Bundle.tN n d ∈ lw_tbl) (w2 : Cond.initialized Bundle.tN ∈ lw_tbl) (h : Cond.isRef (.static Bundle.tN n d) ∈ flatC (Jvm.Cond.and given_1 narrow_1)) (hq : ∀ q : Nat, q < Z.2.1.heap.size → κ.2.2.2.1.heap[q]? = Z.2.1.heap[q]?) : vx_Zq Bundle.tN n d (xfree Z) κ.2.2.2.1 κ.2.2.2.1.heap :=
  vx_Zq.moved C.W.alike ((vx_Zqof (C.G.2.1 _ w1) (C.G.2.1 _ w2) (xpre h C.G) (fun a ha hf => absurd hf (Nat.not_le.mpr ha))).kept (fun a ha _ => hq a ha))
theorem xl_traces {l : Launch} (h : l.flags = flags0) : l.stackTraces = false := by
  unfold Launch.stackTraces
  rw [h]
  decide
def xmake (c : Nat) (kk : Option Nat → XM) : XM := fun h => kk (some h.2.1) (xadd h (.inr (c, [])) 6)
theorem xmake_at {h : XH} {H H1 : Heap} {c : Nat} {cls : String} {T0 : u_T} {ce : Cell} (hc : xcl[c]? = some (cls, T0, 0)) (q2 : xRel Z h H) (e1 : H1[H.size]? = some ce) (e2 : ce.cls = Z.1.1.1 c) (e3 : ce.vm = .none) (z1 : H1.size = H.size + 1) (oq : ∀ q : Nat, q < H.size → H1[q]? = H[q]?) : xRel Z (xadd h (.inr (c, [])) 6) H1 :=
  q2.add z1 oq (xSt.ofObj hc ⟨_, hc, ce, e1, e2, e3, fun k hk => absurd hk (Nat.not_lt_zero k)⟩)

theorem xs_mk0 {cls : String} {T0 : u_T} {names : List String} {ik ic c : Nat} {kk : Option Nat → XM} (hc : xcl[c]? = some (cls, T0, 0)) (hcls : Bundle.fit cls = true) (hnames : ∀ n ∈ names, Bundle.fit n = true) (wk : Cond.classLink δ.2.2.1 ik cls ∈ lw_all) (wi : Cond.initialized cls ∈ lw_all) (ha : ∀ w ∈ vx_at0 δ.2.2.1 ic cls names, w ∈ lw_tbl ∧ xmv w = true) (hg : ∀ w ∈ vx_at0 δ.2.2.1 ic cls names, vx_ot w = true)
    (wU : Cond.laysStatic Bundle.tN "UNASSIGNED_STACK" Bundle.steD ∈ lw_tbl) (wN : Cond.laysStatic Bundle.tN "SUPPRESSED_SENTINEL" Bundle.listD ∈ lw_tbl) (wt : Cond.initialized Bundle.tN ∈ lw_tbl) (pU : Cond.isRef (.static Bundle.tN "UNASSIGNED_STACK" Bundle.steD) ∈ flatC (Jvm.Cond.and given_1 narrow_1)) (pN : Cond.isRef (.static Bundle.tN "SUPPRESSED_SENTINEL" Bundle.listD) ∈ flatC (Jvm.Cond.and given_1 narrow_1))
    (d0 : decode δ.1 pc = .ok (.new ik, 3)) (d3 : decode δ.1 (pc + 3) = .ok (.dup, 1)) (d4 : decode δ.1 (pc + 4) = .ok (.invokespecial ic, 3)) (hμ : μ.2.2 = (fr0, lo0)) (hF : names.length + 3 < fr0) (hL : 8 + (13 * (names.length + 1) + 43) ≤ lo0) (hW : (rest.map fun v => v.category).sum ≤ 8) (hls : ls.size = δ.2.1) (K : ∀ q : Option Nat, xS Z κ μ δ (pc + 7) ls (va_rf q :: rest) (kk q)) : xS Z κ μ δ pc ls rest (xmake c kk) := by
  intro h o h1 e
  unfold xmake at e
  obtain ⟨m, b⟩ := K _ _ o h1 e
  refine ⟨xMono.tr xadd_mono m, fun H locs R C q1 q2 q3 q4 q5 q6 q7 q8 q9 => ?_⟩
  obtain ⟨q1a, q1b, q1c⟩ := q1
  have m1 : h.2.1 + 1 ≤ h1.2.1 := m.1
  have m2 : h.2.2.1 + 6 ≤ h1.2.2.1 := m.2
  have hS : va_S (xfree Z) κ.2.2.2.1.heap H locs := ⟨by rw [q1a, q2.1]; exact q4, fun q hq hf => by
    have hf : q < Z.2.1.heap.size := Nat.lt_of_not_le hf
    rw [q2.2.2.1 q hf, q1c q hf], q3⟩
  
  refine xmk0 (cl := xcl) (D := Z.1.1) (tys := xtys Z.1) (names := names) C.1 C.2.1 (by rw [C.l]; exact xl_traces C.G.2.2.1) C.own hcls hnames (C.ws _ wk) (C.ws _ wi) (fun w hw => xmv_at C (ha w hw).1 (ha w hw).2) (fun w hw => by
    rcases List.mem_cons.mp hw with rfl | hw
    · rfl
    · rcases List.mem_cons.mp hw with rfl | hw
      · rfl
      · exact hg w hw) (xZq_at C wU wt pU q1c) (xZq_at C wN wt pN q1c) hS (hls.trans C.2.2.1.symm) d0 d3 d4 C.K hc (by rw [q6, hμ]; exact hF) (by rw [q7, hμ]; dsimp only; omega) (by omega) (by omega) fun H1 ce e1 e2 e3 z1 z2 oq => ?_
  have z3 : H1.size = H.size + 1 := by
    have := q2.1
    omega
  have hb := b H1 locs R C ⟨q1a, q1b, q1c⟩ (xmake_at hc q2 e1 e2 e3 z3 oq) q3 (Nat.le_trans q4 (Nat.le_succ _)) (Nat.le_trans q5 (Nat.le_add_right _ _)) q6 q7 q8 q9
  have hh : H.size = h.2.1 := q2.1
  rw [hh]
  exact xW.add q4 q5 hb
theorem xs_mkS {cls text : String} {T0 : u_T} {names : List String} {ik ic c i is : Nat} {kk : Option Nat → XM} (hc : xcl[c]? = some (cls, T0, 0)) (hcls : Bundle.fit cls = true) (hnames : ∀ n ∈ names, Bundle.fit n = true) (wk : Cond.classLink δ.2.2.1 ik cls ∈ lw_all) (wi : Cond.initialized cls ∈ lw_all) (hstr : xKT i δ.2.2.1 is text) (ha : ∀ w ∈ vx_atS δ.2.2.1 ic cls names, w ∈ lw_tbl ∧ xmv w = true) (hg : ∀ w ∈ vx_atS δ.2.2.1 ic cls names, vx_ot w = true)
    (wU : Cond.laysStatic Bundle.tN "UNASSIGNED_STACK" Bundle.steD ∈ lw_tbl) (wN : Cond.laysStatic Bundle.tN "SUPPRESSED_SENTINEL" Bundle.listD ∈ lw_tbl) (wt : Cond.initialized Bundle.tN ∈ lw_tbl) (pU : Cond.isRef (.static Bundle.tN "UNASSIGNED_STACK" Bundle.steD) ∈ flatC (Jvm.Cond.and given_1 narrow_1)) (pN : Cond.isRef (.static Bundle.tN "SUPPRESSED_SENTINEL" Bundle.listD) ∈ flatC (Jvm.Cond.and given_1 narrow_1))
    (d0 : decode δ.1 pc = .ok (.new ik, 3)) (d3 : decode δ.1 (pc + 3) = .ok (.dup, 1)) (d4 : decode δ.1 (pc + 4) = .ok (.ldc is, 2)) (d6 : decode δ.1 (pc + 6) = .ok (.invokespecial ic, 3)) (hμ : μ.2.2 = (fr0, lo0)) (hF : names.length + 3 < fr0) (hL : 8 + (13 * (names.length + 1) + 43) ≤ lo0) (hW : (rest.map fun v => v.category).sum ≤ 8) (hls : ls.size = δ.2.1) (K : ∀ q : Option Nat, xS Z κ μ δ (pc + 9) ls (va_rf q :: rest) (kk q)) : xS Z κ μ δ pc ls rest (xmake c kk) := by
  intro h o h1 e
  unfold xmake at e
  obtain ⟨m, b⟩ := K _ _ o h1 e
  refine ⟨xMono.tr xadd_mono m, fun H locs R C q1 q2 q3 q4 q5 q6 q7 q8 q9 => ?_⟩
  obtain ⟨q1a, q1b, q1c⟩ := q1
  have m1 : h.2.1 + 1 ≤ h1.2.1 := m.1
  have m2 : h.2.2.1 + 6 ≤ h1.2.2.1 := m.2
  have hS : va_S (xfree Z) κ.2.2.2.1.heap H locs := ⟨by rw [q1a, q2.1]; exact q4, fun q hq hf => by
    have hf : q < Z.2.1.heap.size := Nat.lt_of_not_le hf
    rw [q2.2.2.1 q hf, q1c q hf], q3⟩
  obtain ⟨sa, -, hv⟩ := hstr Z C.G
  refine xmkS (cl := xcl) (D := Z.1.1) (tys := xtys Z.1) (names := names) C.1 C.2.1 (by rw [C.l]; exact xl_traces C.G.2.2.1) C.own hcls hnames (C.ws _ wk) (C.ws _ wi) (vk_R.warm C.W hv) (fun w hw => xmv_at C (ha w hw).1 (ha w hw).2) (fun w hw => by
    rcases List.mem_cons.mp hw with rfl | hw
    · rfl
    · rcases List.mem_cons.mp hw with rfl | hw
      · rfl
      · exact hg w hw) (xZq_at C wU wt pU q1c) (xZq_at C wN wt pN q1c) hS (hls.trans C.2.2.1.symm) d0 d3 d4 d6 C.K hc (by rw [q6, hμ]; exact hF) (by rw [q7, hμ]; dsimp only; omega) (by omega) (by omega) fun H1 ce e1 e2 e3 z1 z2 oq => ?_
  have z3 : H1.size = H.size + 1 := by
    have := q2.1
    omega
  have hb := b H1 locs R C ⟨q1a, q1b, q1c⟩ (xmake_at hc q2 e1 e2 e3 z3 oq) q3 (Nat.le_trans q4 (Nat.le_succ _)) (Nat.le_trans q5 (Nat.le_add_right _ _)) q6 q7 q8 q9
  have hh : H.size = h.2.1 := q2.1
  rw [hh]
  exact xW.add q4 q5 hb
end XMV
theorem xmk_pU : Cond.isRef (.static Bundle.tN "UNASSIGNED_STACK" Bundle.steD) ∈ flatC (Jvm.Cond.and given_1 narrow_1) := by decide +kernel
theorem xmk_pN : Cond.isRef (.static Bundle.tN "SUPPRESSED_SENTINEL" Bundle.listD) ∈ flatC (Jvm.Cond.and given_1 narrow_1) := by decide +kernel
theorem xmk_in (ws : List Cond) (ps : List Nat) (hp : ws = ps.filterMap (fun i => lw_tbl[i]?)) (hg : ws.all (fun w => xmv w && vx_ot w) = true) : (∀ w ∈ ws, w ∈ lw_tbl ∧ xmv w = true) ∧ ∀ w ∈ ws, vx_ot w = true := by
  have h : ∀ w ∈ ws, xmv w = true ∧ vx_ot w = true := fun w hw => by
    have := List.all_eq_true.mp hg w hw
    simpa using this
  refine ⟨fun w hw => ⟨?_, (h w hw).1⟩, fun w hw => (h w hw).2⟩
  rw [hp] at hw
  obtain ⟨i, -, hi⟩ := List.mem_filterMap.mp hw
  exact List.mem_of_getElem? hi
theorem xmk_J17_multiplyExact : (∀ w ∈ vx_atS "java/lang/Math" 113 "java/lang/ArithmeticException" ["java/lang/RuntimeException", "java/lang/Exception"], w ∈ lw_tbl ∧ xmv w = true) ∧ ∀ w ∈ vx_atS "java/lang/Math" 113 "java/lang/ArithmeticException" ["java/lang/RuntimeException", "java/lang/Exception"], vx_ot w = true := xmk_in _ [97, 342, 351, 357, 360, 362, 343, 344, 130, 131, 345, 350, 358, 375, 332, 376, 334, 377, 336, 346, 348, 338, 940, 941, 374, 338, 1640, 1641, 1642, 934, 324, 934, 935, 936, 937, 326, 937, 938, 939, 940, 328, 1657, 1639, 1650, 1651, 354, 1645, 1646, 1648, 1644, 373, 340, 1643] (by decide +kernel) (by decide +kernel)
theorem xmk_X1_need : (∀ w ∈ vx_at0 "PetitionDesk" 64 "java/lang/IllegalArgumentException" ["java/lang/RuntimeException", "java/lang/Exception"], w ∈ lw_tbl ∧ xmv w = true) ∧ ∀ w ∈ vx_at0 "PetitionDesk" 64 "java/lang/IllegalArgumentException" ["java/lang/RuntimeException", "java/lang/Exception"], vx_ot w = true := xmk_in _ [97, 342, 351, 357, 360, 362, 343, 344, 130, 131, 345, 350, 358, 375, 332, 376, 334, 377, 336, 346, 348, 338, 649, 650, 651, 367, 323, 367, 368, 369, 370, 325, 370, 371, 372, 343, 327, 648, 640, 641, 642, 355, 643, 644, 645, 646, 373, 340, 647] (by decide +kernel) (by decide +kernel)
theorem xmk_X1_needThere : (∀ w ∈ vx_at0 "PetitionDesk" 67 "java/util/NoSuchElementException" ["java/lang/RuntimeException", "java/lang/Exception"], w ∈ lw_tbl ∧ xmv w = true) ∧ ∀ w ∈ vx_at0 "PetitionDesk" 67 "java/util/NoSuchElementException" ["java/lang/RuntimeException", "java/lang/Exception"], vx_ot w = true := xmk_in _ [97, 342, 351, 357, 360, 362, 343, 344, 130, 131, 345, 350, 358, 375, 332, 376, 334, 377, 336, 346, 348, 338, 364, 365, 366, 367, 323, 367, 368, 369, 370, 325, 370, 371, 372, 343, 327, 1437, 321, 322, 329, 330, 331, 333, 335, 337, 373, 340, 339] (by decide +kernel) (by decide +kernel)
theorem xmk_X1_needNow : (∀ w ∈ vx_at0 "PetitionDesk" 70 "java/lang/IllegalStateException" ["java/lang/RuntimeException", "java/lang/Exception"], w ∈ lw_tbl ∧ xmv w = true) ∧ ∀ w ∈ vx_at0 "PetitionDesk" 70 "java/lang/IllegalStateException" ["java/lang/RuntimeException", "java/lang/Exception"], vx_ot w = true := xmk_in _ [97, 342, 351, 357, 360, 362, 343, 344, 130, 131, 345, 350, 358, 375, 332, 376, 334, 377, 336, 346, 348, 338, 1470, 1471, 1472, 367, 323, 367, 368, 369, 370, 325, 370, 371, 372, 343, 327, 1469, 1461, 1462, 1463, 356, 1464, 1465, 1466, 1467, 373, 340, 1468] (by decide +kernel) (by decide +kernel)
