/-! THE START: the classes -/
set_option maxRecDepth 100000
theorem st_cls {s : State} {args : Array Value} (hts : ∀ w ∈ lw_all, w.before args s = true) : ∀ q ∈ jcl, ∃ (cC : ClassId) (iS : Nat → Nat), u_Kn s q.1 q.2.1 q.2.2 cC iS := by
  intro q hq
  simp only [jcl, List.mem_cons, List.not_mem_nil, or_false] at hq
  rcases hq with rfl | rfl | rfl | rfl | rfl | rfl | rfl | rfl | rfl | rfl | rfl | rfl | rfl | rfl | rfl | rfl | rfl | rfl | rfl | rfl | rfl | rfl | rfl | rfl | rfl | rfl | rfl | rfl | rfl | rfl | rfl | rfl | rfl
  · exact u_known hts in_X0 (hts _ q149)
  · exact u_known hts in_X1 (hts _ q159)
  · exact u_known hts in_X2 (hts _ q202)
  · exact u_known hts in_X3 (hts _ q2513)
  · exact u_known hts in_X4 (hts _ q923)
  · exact u_known hts in_X5 (hts _ q1544)
  · exact u_known hts in_X6 (hts _ q1653)
  · exact u_known hts in_X7 (hts _ q1822)
  · exact u_known hts in_X8 (hts _ q2215)
  · exact u_known hts in_X9 (hts _ q2261)
  · exact u_known hts in_X10 (hts _ q2280)
  · exact u_known hts in_J2 (hts _ q165)
  · exact u_known hts in_J4 (hts _ q200)
  · exact u_known hts in_J6 (hts _ q236)
  · exact u_known hts in_J7 (hts _ q272)
  · exact u_known hts in_J9 (hts _ q328)
  · exact u_known hts in_J10 (hts _ q776)
  · exact u_known hts in_J12 (hts _ q411)
  · exact u_known hts in_J15 (hts _ q575)
  · exact u_known hts in_J18 (hts _ q537)
  · exact u_known hts in_J23 (hts _ q990)
  · exact u_known hts in_J25 (hts _ q1354)
  · exact u_known hts in_J29 (hts _ q1261)
  · exact u_known hts in_J31 (hts _ q1289)
  · exact u_known hts in_J32 (hts _ q1324)
  · exact u_known hts in_J33 (hts _ q1428)
  · exact u_known hts in_J34 (hts _ q1494)
  · exact u_known hts in_J36 (hts _ q526)
  · exact u_known hts in_J37 (hts _ q1754)
  · exact u_known hts in_J38 (hts _ q1893)
  · exact u_known hts in_J40 (hts _ q1937)
  · exact u_known hts in_J41 (hts _ q1962)
  · exact u_known hts in_J42 (hts _ q1998)
theorem st_D {s : State} {args : Array Value} (hts : ∀ w ∈ lw_all, w.before args s = true) (lam : ClassId) : ∃ D : va_G, D.1 jlam = lam ∧ ∀ (c : Nat) (q : vw_C), jcl[c]? = some q → u_Kn s q.1 q.2.1 q.2.2 (D.1 c) (D.2 c) := by
  have h : ∀ c : Nat, ∃ x : ClassId × (Nat → Nat), ∀ q, jcl[c]? = some q → u_Kn s q.1 q.2.1 q.2.2 x.1 x.2 := by
    intro c
    cases hc : jcl[c]? with
    | none => exact ⟨(0, fun _ => 0), fun q h => nomatch h⟩
    | some q =>
      obtain ⟨cC, iS, h1⟩ := st_cls hts q (List.mem_of_getElem? hc)
      exact ⟨(cC, iS), fun q2 h2 => by cases h2; exact h1⟩
  refine ⟨(fun c => if c = jlam then lam else (Classical.choose (h c)).1, fun c => (Classical.choose (h c)).2), ?_, fun c q hc => ?_⟩
  · exact if_pos (c := jlam = jlam) (e := (Classical.choose (h jlam)).1) rfl
  have hne : c ≠ jlam := fun e => by rw [e] at hc; exact absurd hc (by have h9 : jcl[999]? = none := rfl; rw [h9]; exact fun q => nomatch q)
  show u_Kn s q.1 q.2.1 q.2.2 (if c = jlam then lam else (Classical.choose (h c)).1) (Classical.choose (h c)).2
  rw [if_neg hne]
  exact Classical.choose_spec (h c) q hc
