/-! makers of the constants' facts -/
theorem xterm_ref {Z : XZ} {t : Term} {i : Nat} {q : Nat} (G : xG Z) (hi : i < 40) (ht : xterm i = some t) (hq : t.eval Z.2.2.2.1 Z.2.1 none [] Z.2.1 = some (.ref q)) : Z.2.2.1.2 i = some q := by
  rw [G.2.2.2.2.1]
  unfold xcon xconT
  rw [if_pos hi, ht]
  dsimp only
  rw [hq]
theorem xKT.of2 {i k k0 : Nat} {own tx : String} (hi : i < 40) (ht : xterm i = some (.string "PetitionDesk$Reader" k0)) (w : Cond.stringRef own k tx ∈ lw_tbl) (h : Cond.exactly (.string own k) "java/lang/String" ∈ flatC (Jvm.Cond.and given_1 narrow_1)) (h2 : Cond.eq (.string "PetitionDesk$Reader" k0) (.string own k) ∈ flatC (Jvm.Cond.and given_1 narrow_1)) : xKT i own k tx := fun Z G => by
  obtain ⟨q, hq⟩ := xeval_ex (xpre h G)
  refine ⟨q, xterm_ref G hi ht ?_, xvkR (G.2.1 _ w) hq⟩
  obtain ⟨y, e1, e2⟩ := Cond.eq_one (xpre h2 G)
  rw [e1]
  rw [hq] at e2
  exact e2.symm
theorem xKM.of {i : Nat} {nm : String} (hi : i < 40) (ht : xterm i = some (.mirror nm)) (h : Cond.isRef (.mirror nm) ∈ flatC (Jvm.Cond.and given_1 narrow_1)) : xKM i nm := fun Z G => by
  obtain ⟨v, hv, -⟩ := Cond.isRef_spec (xpre h G)
  obtain ⟨c, k, a, h1, h2, h3, h4⟩ := Term.mirror_spec hv
  subst h4
  exact ⟨a, xterm_ref G hi ht hv, c, k, h1, h2, h3⟩
