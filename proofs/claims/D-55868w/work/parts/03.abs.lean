/-! ABSTRACT MACHINE: values, cells, heaps, instructions as predicate transformers -/
abbrev JVal : Type := Int32 ⊕ Option Nat ⊕ Int64 ⊕ UInt32 ⊕ UInt64
abbrev jI (x : Int32) : JVal := Sum.inl x
abbrev jR (r : Option Nat) : JVal := Sum.inr (Sum.inl r)
abbrev jL (x : Int64) : JVal := Sum.inr (Sum.inr (Sum.inl x))
abbrev jF (x : UInt32) : JVal := Sum.inr (Sum.inr (Sum.inr (Sum.inl x)))
abbrev jD (x : UInt64) : JVal := Sum.inr (Sum.inr (Sum.inr (Sum.inr x)))
/-- the machine's value -/
def jV : JVal → Value
  | .inl x => .int x
  | .inr (.inl r) => va_rf r
  | .inr (.inr (.inl x)) => .long x
  | .inr (.inr (.inr (.inl x))) => .float x
  | .inr (.inr (.inr (.inr x))) => .double x
/-- words of a value -/
def jW : JVal → Nat
  | .inl _ => 1
  | .inr (.inl _) => 1
  | .inr (.inr (.inl _)) => 2
  | .inr (.inr (.inr (.inl _))) => 1
  | .inr (.inr (.inr (.inr _))) => 2
def jWs : List JVal → Nat
  | [] => 0
  | v :: l => jW v + jWs l
/-- a cell: an object (number of its class, fields) or an array (number of its kind, length and contents) -/
abbrev JCel : Type := (Nat × List JVal) ⊕ (Nat × vp_A)
abbrev jO (c : Nat) (fs : List JVal) : JCel := Sum.inl (c, fs)
abbrev jA (k : Nat) (a : vp_A) : JCel := Sum.inr (k, a)
abbrev aI (n : Nat) (f : Nat → Int32) : vp_A := (n, Sum.inl f)
abbrev aL (n : Nat) (f : Nat → Int64) : vp_A := (n, Sum.inr (Sum.inl f))
abbrev aR (n : Nat) (f : Nat → Option Nat) : vp_A := (n, Sum.inr (Sum.inr (Sum.inr (Sum.inr f))))
/-- a heap: cells (with: may it be written), next address, room used -/
abbrev JHp : Type := (Nat → Option (Bool × JCel)) × Nat × Nat
abbrev JOut : Type := Option JVal ⊕ Nat
abbrev JLoc : Type := List (Option JVal)
abbrev JSt : Type := List JVal
abbrev JCall : Type := Nat → List JVal → JHp → JOut → JHp → Prop
abbrev JK : Type := Nat → JLoc → JSt → JHp → Prop
abbrev JRt : Type := JOut → JHp → Prop
abbrev JIns : Type := JCall → JK → JRt → Nat → JLoc → JSt → JHp → Prop
def jup (H : JHp) (a : Nat) (c : JCel) : JHp := (fun q => if q = a then some (true, c) else H.1 q, H.2.1, H.2.2)
def jnew (H : JHp) (c : JCel) (n : Nat) : JHp := (fun q => if q = H.2.1 then some (true, c) else H.1 q, H.2.1 + 1, H.2.2 + 1 + n)
/-- an object, an array, read -/
def job (H : JHp) (a c : Nat) (fs : List JVal) : Prop := ∃ b : Bool, H.1 a = some (b, jO c fs)
def jar (H : JHp) (a k : Nat) (A : vp_A) : Prop := ∃ b : Bool, H.1 a = some (b, jA k A)
/-- the n-th of a list -/
def jn {α : Type} : List α → Nat → Option α
  | [], _ => none
  | a :: _, 0 => some a
  | _ :: l, n + 1 => jn l n
def jset {α : Type} : List α → Nat → α → List α
  | [], _, _ => []
  | _ :: l, 0, v => v :: l
  | a :: l, n + 1, v => a :: jset l n v
def jclr : Option JVal → Option JVal
  | some (.inr (.inr (.inl _))) => none
  | some (.inr (.inr (.inr (.inr _)))) => none
  | x => x
/-- a local of one word is stored -/
def jput : JLoc → Nat → JVal → JLoc
  | [], _, _ => []
  | _ :: l, 0, v => some v :: l
  | a :: l, 1, v => jclr a :: jput l 0 v
  | a :: l, n + 2, v => a :: jput l (n + 1) v
/-- a local of two words is stored -/
def jtl : JLoc → JLoc
  | [] => []
  | _ :: l => none :: l
def jput2 : JLoc → Nat → JVal → JLoc
  | [], _, _ => []
  | _ :: l, 0, v => some v :: jtl l
  | a :: l, 1, v => jclr a :: jput2 l 0 v
  | a :: l, n + 2, v => a :: jput2 l (n + 1) v
/-- the locals with which a method begins -/
def jargs : List JVal → JLoc
  | [] => []
  | v :: l => if jW v = 2 then some v :: none :: jargs l else some v :: jargs l
def jent (n : Nat) (as : List JVal) : JLoc := jargs as ++ List.replicate (n - (jargs as).length) none
/-! what an instruction is asked: at most some calls, then one way on -/
def jNF (I : JIns) : Prop := ∀ C K Rt pc L S H, I C K Rt pc L S H →
  ∃ (cq : List (Nat × List JVal × JHp × JOut × JHp)) (r : (Nat × JLoc × JSt × JHp) ⊕ (JOut × JHp)),
    (∀ q ∈ cq, C q.1 q.2.1 q.2.2.1 q.2.2.2.1 q.2.2.2.2) ∧
    Sum.elim (fun f => K f.1 f.2.1 f.2.2.1 f.2.2.2) (fun f => Rt f.1 f.2) r ∧
    ((∀ q ∈ cq, q.2.2.1.2.2 ≤ q.2.2.2.2.2.2) → H.2.2 ≤ Sum.elim (fun f => f.2.2.2.2.2) (fun f => f.2.2.2) r) ∧
    ∀ (C' : JCall) (K' : JK) (Rt' : JRt), (∀ q ∈ cq, C' q.1 q.2.1 q.2.2.1 q.2.2.2.1 q.2.2.2.2) → Sum.elim (fun f => K' f.1 f.2.1 f.2.2.1 f.2.2.2) (fun f => Rt' f.1 f.2) r → I C' K' Rt' pc L S H
theorem jNF.k {I : JIns} (h : ∀ C K Rt pc L S H, I C K Rt pc L S H → ∃ pc' L' S' H', K pc' L' S' H' ∧ H.2.2 ≤ H'.2.2 ∧ ∀ (C' : JCall) (K' : JK) (Rt' : JRt), K' pc' L' S' H' → I C' K' Rt' pc L S H) : jNF I := by
  intro C K Rt pc L S H hI
  obtain ⟨pc', L', S', H', hK, hw, hb⟩ := h C K Rt pc L S H hI
  exact ⟨[], .inl (pc', L', S', H'), (fun q hq => by cases hq), hK, fun _ => hw, fun C' K' Rt' _ hk => hb C' K' Rt' hk⟩
theorem jNF.r {I : JIns} (h : ∀ C K Rt pc L S H, I C K Rt pc L S H → ∃ o, Rt o H ∧ ∀ (C' : JCall) (K' : JK) (Rt' : JRt), Rt' o H → I C' K' Rt' pc L S H) : jNF I := by
  intro C K Rt pc L S H hI
  obtain ⟨o, hK, hb⟩ := h C K Rt pc L S H hI
  exact ⟨[], .inr (o, H), (fun q hq => by cases hq), hK, fun _ => Nat.le_refl _, fun C' K' Rt' _ hk => hb C' K' Rt' hk⟩
/-- the program as a table of bodies -/
def jfind : List (Nat × JIns) → Nat → JIns
  | [], _ => fun _ _ _ _ _ _ _ => False
  | q :: l, pc => bif Nat.beq q.1 pc then q.2 else jfind l pc
theorem jfind_nf {l : List (Nat × JIns)} (h : ∀ q ∈ l, jNF q.2) : ∀ pc, jNF (jfind l pc) := by
  induction l with
  | nil => intro pc C K Rt pc L S H hI; exact hI.elim
  | cons q l ih =>
    intro pc
    have ih := ih (fun z hz => h z (List.mem_cons_of_mem _ hz)) pc
    unfold jfind
    cases Nat.beq q.1 pc with
    | true => exact h q List.mem_cons_self
    | false => exact ih
/-- a program: bodies and number of locals by method -/
abbrev JP : Type := (Nat → Nat → JIns) × (Nat → Nat)
noncomputable def jrun (P : JP) (n : Nat) : Nat → JRt → Nat → JLoc → JSt → JHp → Prop :=
  Nat.rec (fun _ _ _ _ _ _ => False) (fun _ ih m Rt pc L S H => P.1 m pc (fun m' as h o h' => (jargs as).length ≤ P.2 m' ∧ ih m' (fun o2 h2 => o2 = o ∧ h2 = h') 0 (jent (P.2 m') as) [] h) (fun pc' L' S' H' => ih m Rt pc' L' S' H') Rt pc L S H) n
def JPNF (P : JP) : Prop := ∀ m pc, jNF (P.1 m pc)
theorem jrun_mono1 {P : JP} (hP : JPNF P) : ∀ (n : Nat) m (Rt Rt' : JRt) pc L S H, (∀ o h, Rt o h → Rt' o h) → jrun P n m Rt pc L S H → jrun P (n + 1) m Rt' pc L S H := by
  intro n
  induction n with
  | zero => intro m Rt Rt' pc L S H _ h; exact h.elim
  | succ n ih =>
    intro m Rt Rt' pc L S H hR h
    obtain ⟨cq, r, h1, h2, -, h3⟩ := hP m pc _ _ _ _ _ _ _ h
    refine h3 _ _ _ (fun q hq => ⟨(h1 q hq).1, ih _ _ _ _ _ _ _ (fun _ _ z => z) (h1 q hq).2⟩) ?_
    cases r with
    | inl f => exact ih _ _ _ _ _ _ _ hR h2
    | inr f => exact hR _ _ h2
theorem jrun_mono {P : JP} (hP : JPNF P) {n n' : Nat} (hn : n ≤ n') {m : Nat} {Rt Rt' : JRt} {pc L S H} (hR : ∀ o h, Rt o h → Rt' o h) (h : jrun P n m Rt pc L S H) : jrun P n' m Rt' pc L S H := by
  induction hn generalizing Rt with
  | refl =>
    cases n with
    | zero => exact h.elim
    | succ n =>
      obtain ⟨cq, r, h1, h2, -, h3⟩ := hP m pc _ _ _ _ _ _ _ h
      refine h3 _ _ _ h1 ?_
      cases r with
      | inl f =>
        have := jrun_mono1 hP n m Rt Rt' f.1 f.2.1 f.2.2.1 f.2.2.2 hR h2
        clear h3
        revert this h2
        intro h2 h3
        exact (by
          have key : ∀ (k : Nat) m (Rt Rt' : JRt) pc L S H, (∀ o h, Rt o h → Rt' o h) → jrun P k m Rt pc L S H → jrun P k m Rt' pc L S H := by
            intro k
            induction k with
            | zero => intro m Rt Rt' pc L S H _ h; exact h.elim
            | succ k ih =>
              intro m Rt Rt' pc L S H hR h
              obtain ⟨cq, r, g1, g2, -, g3⟩ := hP m pc _ _ _ _ _ _ _ h
              refine g3 _ _ _ g1 ?_
              cases r with
              | inl f => exact ih _ _ _ _ _ _ _ hR g2
              | inr f => exact hR _ _ g2
          exact key n m Rt Rt' _ _ _ _ hR h2)
      | inr f => exact hR _ _ h2
  | step hn ih => exact jrun_mono1 hP _ m Rt' Rt' _ _ _ _ (fun _ _ z => z) (ih hR h)
/-- at most one end -/
theorem jrun_end {P : JP} (hP : JPNF P) : ∀ (n : Nat) m (Rt : JRt) pc L S H, jrun P n m Rt pc L S H → ∃ o h, Rt o h ∧ H.2.2 ≤ h.2.2 ∧ jrun P n m (fun o2 h2 => o2 = o ∧ h2 = h) pc L S H := by
  intro n
  induction n with
  | zero => intro m Rt pc L S H h; exact h.elim
  | succ n ih =>
    intro m Rt pc L S H h
    obtain ⟨cq, r, h1, h2, hw, h3⟩ := hP m pc _ _ _ _ _ _ _ h
    have hw := hw (fun q hq => by
      obtain ⟨o, h, ⟨-, e2⟩, hle, -⟩ := ih _ _ _ _ _ _ (h1 q hq).2
      rw [e2] at hle
      exact hle)
    cases r with
    | inl f =>
      obtain ⟨o, h', q1, q2, q3⟩ := ih _ _ _ _ _ _ h2
      exact ⟨o, h', q1, Nat.le_trans hw q2, h3 _ _ _ h1 q3⟩
    | inr f => exact ⟨f.1, f.2, h2, hw, h3 _ _ _ h1 ⟨rfl, rfl⟩⟩
/-- weakest precondition of method m from pc on; a call's big step -/
def jwp (P : JP) (m : Nat) (Rt : JRt) (pc : Nat) (L : JLoc) (S : JSt) (H : JHp) : Prop := ∃ n, jrun P n m Rt pc L S H
def jok (P : JP) (m : Nat) (as : List JVal) (h : JHp) (o : JOut) (h' : JHp) : Prop := (jargs as).length ≤ P.2 m ∧ jwp P m (fun o2 h2 => o2 = o ∧ h2 = h') 0 (jent (P.2 m) as) [] h
theorem jwp_step {P : JP} (hP : JPNF P) {m : Nat} {Rt : JRt} {pc : Nat} {L : JLoc} {S : JSt} {H : JHp} (h : P.1 m pc (jok P) (jwp P m Rt) Rt pc L S H) : jwp P m Rt pc L S H := by
  obtain ⟨cq, r, h1, h2, -, h3⟩ := hP m pc _ _ _ _ _ _ _ h
  have hc : ∃ n, ∀ q ∈ cq, (jargs q.2.1).length ≤ P.2 q.1 ∧ jrun P n q.1 (fun o2 h2 => o2 = q.2.2.2.1 ∧ h2 = q.2.2.2.2) 0 (jent (P.2 q.1) q.2.1) [] q.2.2.1 := by
    clear h3
    induction cq with
    | nil => exact ⟨0, fun q hq => by cases hq⟩
    | cons a cq ih =>
      obtain ⟨n1, g1⟩ := ih (fun q hq => h1 q (List.mem_cons_of_mem _ hq))
      obtain ⟨g0, n2, g2⟩ := h1 a List.mem_cons_self
      refine ⟨n1 + n2, fun q hq => ?_⟩
      rcases List.mem_cons.mp hq with e | e
      · subst e; exact ⟨g0, jrun_mono hP (by omega) (fun _ _ z => z) g2⟩
      · exact ⟨(g1 q e).1, jrun_mono hP (by omega) (fun _ _ z => z) (g1 q e).2⟩
  obtain ⟨n1, g1⟩ := hc
  cases r with
  | inl f =>
    obtain ⟨n2, g2⟩ := h2
    refine ⟨n1 + n2 + 1, h3 _ _ _ (fun q hq => ⟨(g1 q hq).1, jrun_mono hP (by omega) (fun _ _ z => z) (g1 q hq).2⟩) ?_⟩
    exact jrun_mono hP (by omega) (fun _ _ z => z) g2
  | inr f => exact ⟨n1 + 1, h3 _ _ _ g1 h2⟩
theorem jwp_mono {P : JP} (hP : JPNF P) {m : Nat} {Rt Rt' : JRt} {pc L S H} (hR : ∀ o h, Rt o h → Rt' o h) (h : jwp P m Rt pc L S H) : jwp P m Rt' pc L S H := by
  obtain ⟨n, h⟩ := h
  exact ⟨n, jrun_mono hP (Nat.le_refl n) hR h⟩
theorem jwp_end {P : JP} (hP : JPNF P) {m : Nat} {Rt : JRt} {as : List JVal} {H : JHp} (hl : (jargs as).length ≤ P.2 m) (h : jwp P m Rt 0 (jent (P.2 m) as) [] H) : ∃ o h, jok P m as H o h ∧ Rt o h := by
  obtain ⟨n, h⟩ := h
  obtain ⟨o, h', h1, -, h2⟩ := jrun_end hP n _ _ _ _ _ _ h
  exact ⟨o, h', ⟨hl, n, h2⟩, h1⟩
theorem jok_wp {P : JP} (hP : JPNF P) {m : Nat} {Rt : JRt} {as : List JVal} {H h : JHp} {o : JOut} (h1 : jok P m as H o h) (h2 : Rt o h) : jwp P m Rt 0 (jent (P.2 m) as) [] H := by
  refine jwp_mono hP ?_ h1.2
  rintro _ _ ⟨rfl, rfl⟩
  exact h2
theorem jok_room {P : JP} (hP : JPNF P) {m : Nat} {as : List JVal} {H h : JHp} {o : JOut} (h1 : jok P m as H o h) : H.2.2 ≤ h.2.2 := by
  obtain ⟨-, n, h1⟩ := h1
  obtain ⟨o2, h2, ⟨-, e⟩, hle, -⟩ := jrun_end hP n _ _ _ _ _ _ h1
  rw [e] at hle
  exact hle
/-- many instructions at once, up to the places named by stop -/
noncomputable def junf (P : JP) (stop : Nat → Bool) (b : Nat → JIns) (m : Nat) (Rt : JRt) (n : Nat) : Nat → JLoc → JSt → JHp → Prop :=
  Nat.rec (fun _ _ _ _ => False) (fun _ ih pc L S H => b pc (jok P) (fun pc' L' S' H' => bif stop pc' then jwp P m Rt pc' L' S' H' else ih pc' L' S' H') Rt pc L S H) n
theorem junf_wp {P : JP} (hP : JPNF P) {stop : Nat → Bool} {m : Nat} {b : Nat → JIns} (hb : P.1 m = b) {Rt : JRt} : ∀ (n : Nat) pc L S H, junf P stop b m Rt n pc L S H → jwp P m Rt pc L S H := by
  subst hb
  intro n
  induction n with
  | zero => intro pc L S H h; exact h.elim
  | succ n ih =>
    intro pc L S H h
    refine jwp_step hP ?_
    obtain ⟨cq, r, h1, h2, -, h3⟩ := hP m pc _ _ _ _ _ _ _ h
    refine h3 _ _ _ h1 ?_
    cases r with
    | inl f =>
      have h2 : (bif stop f.1 then jwp P m Rt f.1 f.2.1 f.2.2.1 f.2.2.2 else junf P stop (P.1 m) m Rt n f.1 f.2.1 f.2.2.1 f.2.2.2) := h2
      show jwp P m Rt f.1 f.2.1 f.2.2.1 f.2.2.2
      cases hs : stop f.1 with
      | true => rw [hs] at h2; exact h2
      | false => rw [hs] at h2; exact ih _ _ _ _ h2
    | inr f => exact h2
