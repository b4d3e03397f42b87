/-! SOUNDNESS: a method out of its instructions; a program out of its methods -/
set_option maxRecDepth 100000
theorem jn_rep : ∀ (n k : Nat) (v : JVal), jn (List.replicate n (none : Option JVal)) k ≠ some (some v) := by
  intro n
  induction n with
  | zero => intro k v h; cases h
  | succ n ih =>
    intro k v h
    rw [List.replicate_succ] at h
    cases k with
    | zero => cases h
    | succ k => exact ih k v h
theorem jargs_at {Z : JLoc} (hZ : ∀ k v, jn Z k ≠ some (some v)) : ∀ (as : List JVal) (i k : Nat) (v : JVal), jn (jargs as ++ Z) k = some (some v) → (i + k, jV v) ∈ lv_args i (as.map jV) := by
  intro as
  induction as with
  | nil => intro i k v h; exact absurd h (hZ k v)
  | cons a as ih =>
    intro i k v h
    show (i + k, jV v) ∈ (i, jV a) :: lv_args (if (jV a).category = 2 then i + 2 else i + 1) (as.map jV)
    rw [jW_cat]
    unfold jargs at h
    by_cases e : jW a = 2
    · rw [if_pos e] at h ⊢
      match k with
      | 0 =>
        have h : some (some a) = some (some v) := h
        cases h
        exact List.mem_cons_self
      | 1 => cases h
      | k + 2 =>
        have := ih (i + 2) k v h
        rw [show i + 2 + k = i + (k + 2) by omega] at this
        exact List.mem_cons_of_mem _ this
    · rw [if_neg e] at h ⊢
      match k with
      | 0 =>
        have h : some (some a) = some (some v) := h
        cases h
        exact List.mem_cons_self
      | k + 1 =>
        have := ih (i + 1) k v h
        rw [show i + 1 + k = i + (k + 1) by omega] at this
        exact List.mem_cons_of_mem _ this
theorem jargs_len : ∀ as : List JVal, (lg_sl (as.map jV)).length = (jargs as).length := by
  intro as
  induction as with
  | nil => rfl
  | cons a as ih =>
    have e1 : lg_sl ((a :: as).map jV) = (if (jV a).category = 2 then [Slot.val (jV a), .second] else [Slot.val (jV a)]) ++ lg_sl (as.map jV) := by simp [lg_sl]
    rw [e1, jW_cat]
    unfold jargs
    by_cases e : jW a = 2
    · rw [if_pos e, if_pos e]
      simp [ih]
    · rw [if_neg e, if_neg e]
      simp [ih]
theorem jentry {as : List JVal} {n : Nat} (h : (jargs as).length ≤ n) (m : MethodId) : ∃ ls : Array Slot, entryFrame m (as.map jV).toArray n = F0 m 0 ls [] ∧ jloc (jent n as) ls n := by
  have h2 : (lg_sl (as.map jV)).length ≤ n := by rw [jargs_len]; exact h
  have hl := lv_entry (as.map jV) h2
  refine ⟨_, lg_entry_eq m (as.map jV) n, ?_, hl.1, hl.2.1, fun k v hk => ?_⟩
  · show (jargs as ++ List.replicate (n - (jargs as).length) none).length = n
    simp
    omega
  · have := jargs_at (jn_rep _) as 0 k v hk
    rw [Nat.zero_add] at this
    exact hl.2.2 (k, jV v) this
/-- all of a body's instructions sound -/
def jSall (E : JE) (T : Nat → JI) (M : JM) : List (Nat × JIns) → Prop
  | [] => True
  | q :: l => jsnd E T M q.1 q.2 ∧ jSall E T M l
theorem jS_n {E : JE} {T : Nat → JI} {M : JM} : jSall E T M [] := trivial
theorem jS_c {E : JE} {T : Nat → JI} {M : JM} {q : Nat × JIns} {l : List (Nat × JIns)} (h : jsnd E T M q.1 q.2) (h2 : jSall E T M l) : jSall E T M (q :: l) := ⟨h, h2⟩
theorem jfind_snd {E : JE} {T : Nat → JI} {M : JM} : ∀ {l : List (Nat × JIns)}, jSall E T M l → ∀ pc, jsnd E T M pc (jfind l pc) := by
  intro l
  induction l with
  | nil =>
    intro _ pc w0 wE p l e R s m args below meth c Q hc C K Rt hC hK hR L S H hI
    exact hI.elim
  | cons q l ih =>
    intro h pc
    have ih2 := ih h.2 pc
    unfold jfind
    cases hq : Nat.beq q.1 pc with
    | true =>
      have h1 := h.1
      rw [Nat.eq_of_beq_eq_true hq] at h1
      exact h1
    | false => exact ih2
def jmOf (i : JI) : JM := (i.1.cls, i.2.1, i.2.2.1, i.2.2.2.1, (i.1.name, i.1.desc), i.2.2.2.2.1.getD [], i.2.2.2.2.2)
/-- from a body to a contract, with or without handlers -/
theorem jbody {l : Launch} {i : JI} {rm : Room} {Pc : Array Value → State → Prop} {Qf : Array Value → State → Outcome → State → Prop} (hy : plainFor i.1 = true) (hy2 : i.2.2.2.2.1 = none ∨ plainName i.1.cls = true)
    (body : ∀ p e s m args below meth c s₁, BodyLoose p l i.1 (headSpec (jws i) rm) i.2.1 i.2.2.1 i.2.2.2.1 e s m args below meth c s₁ → c.maxLocals = i.2.2.1 → c.exceptionTable.toList = tableOf (i.2.2.2.2.1.getD []) → Pc args s →
      W p l e rm s m args below meth c s.heap [] 0 0 (fun t => ∃ o, t.status = .running ∧ Ended t below o ∧ Qf args s o t) (entryFrame m args i.2.2.1)) : MetFree l i.1 (headSpec (jws i) rm) Pc (fun _ _ _ _ _ => True) Qf := by
  obtain ⟨y, b, L, r, hh, d⟩ := i
  cases hh with
  | none =>
    refine MetFree.of_bodySF (code := b) (maxLocals := L) (ret := r) hy ?_ ?_
    · intro args s m h hn
      obtain ⟨meth, c, h1, h2, h3, h4, h5, h6, -, -⟩ := Cond.code_spec hn (atoms_spec (ws := ws_ y b L r) h _ List.mem_cons_self)
      exact ⟨meth, c, h1, h2, h3, h4, h5, h6⟩
    · intro p e s m args below meth c s₁ B hml hP _
      have hh0 : s₁.heap = s.heap := by rw [B.state]; rfl
      have ht : c.exceptionTable.toList = tableOf [] := by
        obtain ⟨meth9, c9, h1, h2, -, -, -, -, h7, -⟩ := Cond.code_spec B.named (atoms_spec (ws := ws_ y b L r) B.pre _ List.mem_cons_self)
        cases Option.some.inj (h1.symm.trans B.method)
        cases Option.some.inj (h2.symm.trans (Stand.of_body B).code)
        rw [Array.isEmpty_iff.mp h7]
        rfl
      obtain ⟨t, a1, o, b1, b2, b3⟩ := body p e s m args below meth c s₁ B hml ht hP s₁ hh0 (Stand.of_body B)
      exact ⟨t, o, a1, b1, b2, b3⟩
  | some hh =>
    have hy2 : plainName y.cls = true := hy2.resolve_left (fun h => nomatch h)
    refine MetFree.of_bodyS (code := b) (maxLocals := L) (ret := r) hy2 ?_ ?_
    · intro args s m h hn
      obtain ⟨m9, meth, c, hn9, h1, h2, h3, h4, -, h5, h6, -⟩ := Cond.codeWith_spec (atoms_spec (ws := wsW_ y b L r hh) h _ List.mem_cons_self)
      cases hn.symm.trans hn9
      exact ⟨meth, c, h1, h2, h3, h4, h5, h6⟩
    · intro p e s m args below meth c s₁ B hml hP _
      have hh0 : s₁.heap = s.heap := by rw [B.state]; rfl
      have ht : c.exceptionTable.toList = tableOf hh := vx_table (x := y) B (atoms_spec (ws := wsW_ y b L r hh) B.pre _ List.mem_cons_self)
      obtain ⟨t, a1, o, b1, b2, b3⟩ := body p e s m args below meth c s₁ B hml ht hP s₁ hh0 (Stand.of_body B)
      exact ⟨t, o, a1, b1, b2, b3⟩
theorem jws_all (i : JI) : ∀ w ∈ lw_all, w ∈ jws i := by
  obtain ⟨y, b, L, r, hh, d⟩ := i
  intro w hw
  cases hh <;> exact List.mem_cons_of_mem _ hw
theorem jctx.of {E : JE} {l : Launch} {i : JI} {as : List JVal} {H H' : JHp} {p : Program} {e : Env} {s : State} {m : MethodId} {args : Array Value} {below : List Frame} {meth : Method} {c : Code} {s₁ : State} (B : BodyLoose p l i.1 (headSpec (jws i) (jrm i.2.2.2.2.2 (H'.2.2 - H.2.2))) i.2.1 i.2.2.1 i.2.2.2.1 e s m args below meth c s₁) (hml : c.maxLocals = i.2.2.1) (ht : c.exceptionTable.toList = tableOf (i.2.2.2.2.1.getD [])) (hp : jpre E as H args s) :
    jctx E (jmOf i) H.2.2 H'.2.2 p l (jrm i.2.2.2.2.2 (H'.2.2 - H.2.2)) s m args meth c := by
  obtain ⟨hv, hr, hkk⟩ := hp
  exact ⟨B.exec, B.bytes, hml, findClass_of_methodNamed B.named, fun w hw => atoms_spec (ws := jws i) B.pre w (jws_all i w hw), hkk, B.returns, fun hn => ⟨(name_of_methodNamed B.named B.method).1.trans hn, B.named⟩, ht, B.notSynchronized, ⟨Nat.le_refl _, Nat.le_refl _⟩, fun k hk => ⟨hk, hk⟩, ⟨Nat.le_refl _, hr.2.2.1⟩, by rw [hr.1]; exact hr.2.1⟩
section SDM
variable {E : JE} {T : Nat → JI} {l : Launch}
/-- one method, at one more of fuel -/
theorem jmeth {P : JP} (hP : JPNF P) {n k : Nat} {as : List JVal} {H H' : JHp} {o : JOut} (hT : ∀ pc, jsnd E T (jmOf (T k)) pc (P.1 k pc)) (hy : plainFor (T k).1 = true) (hy2 : (T k).2.2.2.2.1 = none ∨ plainName (T k).1.cls = true) (hm : P.2 k = (T k).2.2.1) (hla : (jargs as).length ≤ P.2 k)
    (hC : jCS l E T (fun m' as h o h' => (jargs as).length ≤ P.2 m' ∧ jrun P n m' (fun o2 h2 => o2 = o ∧ h2 = h') 0 (jent (P.2 m') as) [] h))
    (ih : ∀ {E : JE} {w0 wE : Nat} {p : Program} {l : Launch} {e : Env} {R : Room} {s : State} {m : MethodId} {args : Array Value} {below : List Frame} {meth : Method} {c : Code} {Q : State → Prop} {Rt : JRt}, True → True)
    (h : ∀ {p : Program} {e : Env} {R : Room} {s : State} {m : MethodId} {args : Array Value} {below : List Frame} {meth : Method} {c : Code} {Q : State → Prop}, jctx E (jmOf (T k)) H.2.2 H'.2.2 p l R s m args meth c → jRS E (jmOf (T k)) H.2.2 H'.2.2 p l e R s m args below meth c Q (fun o2 h2 => o2 = o ∧ h2 = H') → jsem E (jmOf (T k)) H.2.2 p l e R s m args below meth c Q 0 (jent (P.2 k) as) [] H) : jmet l E (T k) as H o H' := by
  cases o with
  | inl v =>
    show MetFree l (T k).1 (headSpec (jws (T k)) (jrm (T k).2.2.2.2.2 (H'.2.2 - H.2.2))) (jpre E as H) (fun _ _ _ _ _ => True) (fun a st o t => jqc E v H' a st o t ∧ ∃ L, FrameEnd st o t L (H'.2.2 - H.2.2) (H'.2.2 - H.2.2) ∧ ∀ q ∈ L, jb0 E ≤ q.base)
    refine jbody hy hy2 fun p e s m args below meth c s₁ B hml ht hp => ?_
    have hc := jctx.of (H' := H') B hml ht hp
    obtain ⟨hv, hr, hkk⟩ := hp
    subst hv
    obtain ⟨ls, e1, e2⟩ := jentry (as := as) (n := (T k).2.2.1) (by rw [← hm]; exact hla) m
    rw [e1]
    have hs := h (Q := MQ below (jqc E v H') (as.map jV).toArray s (H'.2.2 - H.2.2) (H'.2.2 - H.2.2) (fun a => jb0 E ≤ a)) (e := e) (below := below) hc ?_ s.heap [] ls hr (fun q hq => by cases hq) (Nat.le_refl _) (by rw [hm]; exact e2) (Nat.le_refl _)
    · rw [Nat.sub_self] at hs
      exact hs
    · rintro o2 h2 ⟨rfl, rfl⟩
      refine ⟨Nat.le_refl _, fun Hr locs ls hr2 hlo hz hw => ?_⟩
      intro pc st hj
      obtain ⟨hx, hb, hml, hown, hts, hkk, hret, hin, htab, hlk, hroom, hcel, hst, hb0⟩ := hc
      have hq9 : ∀ t : State, t.heap = Hr → s.WarmedH t.vm → jqc E v h2 (as.map jV).toArray s (.returned (v.map jV)) t := fun t ht _ => ⟨rfl, by rw [ht]; exact hr2, by rw [ht]; exact hz⟩
      rcases v with _ | x | r | x | x | x
      · obtain ⟨d1, d2, rfl⟩ := hj
        exact W.vret hx hb (hret.trans d2) hq9 hlo d1
      · obtain ⟨d1, ⟨ty, d2, d3⟩, rfl⟩ := hj
        exact W.zret hx hb (hret.trans d2) d3 hq9 hlo d1
      · obtain ⟨d1, ⟨ty, d2, d3⟩, rfl⟩ := hj
        exact W.aret hx hb (hret.trans d2) d3 (by cases r with
          | none => exact Or.inl rfl
          | some a => exact Or.inr ⟨a, rfl⟩) hq9 hlo d1
      · obtain ⟨d1, d2, rfl⟩ := hj
        exact W.lret hx hb (hret.trans d2) hq9 hlo d1
      · obtain ⟨d1, d2, rfl⟩ := hj
        exact W.fret hx hb (hret.trans d2) hq9 hlo d1
      · obtain ⟨d1, d2, rfl⟩ := hj
        exact W.dret hx hb (hret.trans d2) hq9 hlo d1
  | inr q =>
    intro hno
    show MetFree l (T k).1 (headSpec (jws (T k)) (jrm (T k).2.2.2.2.2 (H'.2.2 - H.2.2))) (jpre E as H) (fun _ _ _ _ _ => True) (vx_Q (fun _ _ _ _ => False) (jxc E q H') (H'.2.2 - H.2.2) (H'.2.2 - H.2.2) (fun a => jb0 E ≤ a))
    refine jbody hy hy2 fun p e s m args below meth c s₁ B hml ht hp => ?_
    have hc := jctx.of (H' := H') B hml ht hp
    obtain ⟨hv, hr, hkk⟩ := hp
    subst hv
    obtain ⟨ls, e1, e2⟩ := jentry (as := as) (n := (T k).2.2.1) (by rw [← hm]; exact hla) m
    rw [e1]
    have hs := h (Q := vx_MQ below (fun _ _ _ _ => False) (jxc E q H') (as.map jV).toArray s (H'.2.2 - H.2.2) (H'.2.2 - H.2.2) (fun a => jb0 E ≤ a)) (e := e) (below := below) hc ?_ s.heap [] ls hr (fun q hq => by cases hq) (Nat.le_refl _) (by rw [hm]; exact e2) (Nat.le_refl _)
    · rw [Nat.sub_self] at hs
      exact hs
    · rintro o2 h2 ⟨rfl, rfl⟩
      refine ⟨Nat.le_refl _, fun Hr locs ls hr2 hlo hz hw => ?_⟩
      intro pc rest cn fs hout hob hne
      obtain ⟨hx, hb, hml, hown, hts, hkk, hret, hin, htab, hlk, hroom, hcel, hst, hb0⟩ := hc
      have hat := (hr2.tr hob).2
      have hr0 : ∃ r, jcl[cn]? = some r := by
        rcases hat with ⟨r, h3, -⟩ | ⟨h3, -⟩
        · exact ⟨r, h3⟩
        · exact absurd h3 hne
      obtain ⟨r, hr1⟩ := hr0
      obtain ⟨-, cell, g1, g2, g3, -⟩ := hat.ob hr1
      have hfc := (hkk.1.1 cn _ hr1).2.1
      exact vx_out (E := r.1) (ce := cell) hout hlk g1 g3 (by rw [g2]; exact hfc) (fun t ht _ => ⟨rfl, ⟨cn, fs, r, hob, hr1, rfl⟩, by rw [ht]; exact hr2, by rw [ht]; exact hz⟩) hlo (Nat.le_refl _) (Nat.le_refl _)
/-- the walk of a body, by fuel -/
theorem jwalk {P : JP} (hP : JPNF P) {k : Nat} (hT : ∀ pc, jsnd E T (jmOf (T k)) pc (P.1 k pc)) : ∀ (n : Nat), (∀ j, j < n → jCS l E T (fun m' as h o h' => (jargs as).length ≤ P.2 m' ∧ jrun P j m' (fun o2 h2 => o2 = o ∧ h2 = h') 0 (jent (P.2 m') as) [] h)) →
    ∀ {w0 wE : Nat} {p : Program} {e : Env} {R : Room} {s : State} {m : MethodId} {args : Array Value} {below : List Frame} {meth : Method} {c : Code} {Q : State → Prop} {Rt : JRt}, jctx E (jmOf (T k)) w0 wE p l R s m args meth c → (∀ o H, Rt o H → H.2.2 ≤ wE) → jRS E (jmOf (T k)) w0 wE p l e R s m args below meth c Q Rt →
      ∀ pc L S H, jrun P n k Rt pc L S H → H.2.2 ≤ wE ∧ jsem E (jmOf (T k)) w0 p l e R s m args below meth c Q pc L S H := by
  intro n
  induction n with
  | zero =>
    intro _ w0 wE p e R s m args below meth c Q Rt hc hE hR pc L S H h
    exact h.elim
  | succ n ih =>
    intro hC w0 wE p e R s m args below meth c Q Rt hc hE hR pc L S H h
    refine ⟨?_, ?_⟩
    · obtain ⟨o, h9, h1, h2, -⟩ := jrun_end hP (n + 1) k Rt pc L S H h
      exact Nat.le_trans h2 (hE _ _ h1)
    · exact hT pc hc _ _ _ (hC n (Nat.lt_succ_self n)) (fun pc' L' S' H' h9 => ih (fun j hj => hC j (Nat.lt_succ_of_lt hj)) hc hE hR pc' L' S' H' h9) hR L S H h
/-- the whole program: every call's big step is a contract -/
theorem jsound {P : JP} (hP : JPNF P) (hT : ∀ k pc, jsnd E T (jmOf (T k)) pc (P.1 k pc)) (hy : ∀ k, plainFor (T k).1 = true ∧ ((T k).2.2.2.2.1 = none ∨ plainName (T k).1.cls = true)) (hm : ∀ k, P.2 k = (T k).2.2.1) :
    ∀ n, jCS l E T (fun m' as h o h' => (jargs as).length ≤ P.2 m' ∧ jrun P n m' (fun o2 h2 => o2 = o ∧ h2 = h') 0 (jent (P.2 m') as) [] h) := by
  intro n
  induction n using Nat.strongRecOn with
  | ind n ih =>
    intro k as H o H' ⟨hla, hr⟩
    obtain ⟨o9, h9, ⟨-, e9⟩, hle, -⟩ := jrun_end hP n _ _ _ _ _ _ hr
    rw [e9] at hle
    refine ⟨hle, ?_⟩
    refine jmeth hP (n := 0) (hT k) (hy k).1 (hy k).2 (hm k) hla (fun k as H o H' ⟨_, h⟩ => h.elim) (fun _ => trivial) (fun hc hR => ?_)
    exact (jwalk hP (hT k) n ih hc (fun o2 h2 q => by rw [q.2]; exact Nat.le_refl _) hR 0 _ [] H hr).2
end SDM
