/-! lambdas and the record's equals over xS -/
def ySam (which : Nat) : MethodName := if which = 0 then ⟨"PetitionDesk$Rule", "is", "(LPetitionDesk$Line;)Z"⟩ else ⟨"PetitionDesk$Reading", "of", "(LPetitionDesk$Line;)I"⟩
/-- an interface call of a lambda's object follows a program, wherever it stands -/
def xLam (Z : XZ) (which fr lo : Nat) (r x : Option Nat) (pr : XM) : Prop := ∀ (κ : XK) (μ : XU) (δ : XT) (pc : Nat) (ls : Array Slot) (rest : List Value) (index fr0 lo0 : Nat),
  Cond.methodLink δ.2.2.1 index (ySam which) ∈ lw_all → decode δ.1 pc = .ok (.invokeinterface index 2, 5) → μ.2.2 = (fr0, lo0) → fr + 1 ≤ fr0 → 22 + lo ≤ lo0 → (rest.map fun v => v.category).sum ≤ 8 → ls.size = δ.2.1 → xRun5 Z κ μ δ pc ls (va_rf x :: va_rf r :: rest) rest pr
section XLM
variable {Z : XZ} {κ : XK} {μ : XU} {δ : XT} {pc : Nat} {ls : Array Slot} {rest : List Value} {index fr lo fr0 lo0 : Nat} {pr : XM} {r x : Option Nat}
theorem xr_lam_pIs (w : Cond.methodLink δ.2.2.1 index ⟨"PetitionDesk$Rule", "is", "(LPetitionDesk$Line;)Z"⟩ ∈ lw_all) (hM : xLam Z 0 fr lo r x pr) (d : decode δ.1 pc = .ok (.invokeinterface index 2, 5)) (hμ : μ.2.2 = (fr0, lo0)) (hF : fr + 1 ≤ fr0) (hL : 22 + lo ≤ lo0) (hW : (rest.map fun v => v.category).sum ≤ 8) (hls : ls.size = δ.2.1) : xRun5 Z κ μ δ pc ls (va_rf x :: va_rf r :: rest) rest pr := hM κ μ δ pc ls rest index fr0 lo0 w d hμ hF hL hW hls
theorem xr_lam_pOf (w : Cond.methodLink δ.2.2.1 index ⟨"PetitionDesk$Reading", "of", "(LPetitionDesk$Line;)I"⟩ ∈ lw_all) (hM : xLam Z 1 fr lo r x pr) (d : decode δ.1 pc = .ok (.invokeinterface index 2, 5)) (hμ : μ.2.2 = (fr0, lo0)) (hF : fr + 1 ≤ fr0) (hL : 22 + lo ≤ lo0) (hW : (rest.map fun v => v.category).sum ≤ 8) (hls : ls.size = δ.2.1) : xRun5 Z κ μ δ pc ls (va_rf x :: va_rf r :: rest) rest pr := hM κ μ δ pc ls rest index fr0 lo0 w d hμ hF hL hW hls
end XLM
