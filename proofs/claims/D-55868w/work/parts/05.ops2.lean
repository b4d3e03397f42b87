/-! more instructions; the program's types -/
abbrev JG : Type := (Nat → Nat) × (Nat → Option Nat)
abbrev jshl (x y : Int32) : Int32 := x <<< (y &&& 31)
abbrev jshr (x y : Int32) : Int32 := x >>> (y &&& 31)
abbrev jushr (x y : Int32) : Int32 := (x.toUInt32 >>> (y.toUInt32 &&& Int32.toUInt32 31)).toInt32
abbrev jlshl (x : Int64) (y : Int32) : Int64 := x <<< (y.toInt64 &&& 63)
abbrev jlshr (x : Int64) (y : Int32) : Int64 := x >>> (y.toInt64 &&& 63)
abbrev jlushr (x : Int64) (y : Int32) : Int64 := (x.toUInt64 >>> (y.toInt64.toUInt64 &&& Int64.toUInt64 63)).toInt64
def o_dload (k n : Nat) : JIns := fun _ K _ pc L S H => match jn L k with
  | some (some (.inr (.inr (.inr (.inr x))))) => K (pc + n) L (jD x :: S) H
  | _ => False
theorem nf_dload (k n : Nat) : jNF (o_dload k n) := jNF.k fun C K Rt pc L S H h => by
  unfold o_dload at h ⊢
  split at h
  next x e => exact ⟨_, _, _, _, h, Nat.le_refl _, fun _ _ _ h => h⟩
  next => exact h.elim
def o_dstore (k n : Nat) : JIns := fun _ K _ pc L S H => match S with
  | .inr (.inr (.inr (.inr x))) :: S' => K (pc + n) (jput2 L k (jD x)) S' H
  | _ => False
theorem nf_dstore (k n : Nat) : jNF (o_dstore k n) := jNF.k fun C K Rt pc L S H h => by
  unfold o_dstore at h ⊢
  split at h
  next x S' => exact ⟨_, _, _, _, h, Nat.le_refl _, fun _ _ _ h => h⟩
  next => exact h.elim
def o_dcmp : JIns := fun _ K _ pc L S H => match S with
  | .inr (.inr (.inr (.inr y))) :: .inr (.inr (.inr (.inr x))) :: S' => K (pc + 1) L (jI (Op.cmpValue (FP.dcmp x y) .l) :: S') H
  | _ => False
theorem nf_dcmp : jNF o_dcmp := jNF.k fun C K Rt pc L S H h => by
  unfold o_dcmp at h ⊢
  split at h
  next => exact ⟨_, _, _, _, h, Nat.le_refl _, fun _ _ _ h => h⟩
  next => exact h.elim
/-- instanceof, of an object that has the class -/
def o_inst (c : Nat) : JIns := fun _ K _ pc L S H => match S with
  | .inr (.inl r) :: S' => ∃ (a : Nat) (fs : List JVal), r = some a ∧ job H a c fs ∧ K (pc + 3) L (jI 1 :: S') H
  | _ => False
theorem nf_inst (c : Nat) : jNF (o_inst c) := jNF.k fun C K Rt pc L S H h => by
  unfold o_inst at h ⊢
  split at h
  next => obtain ⟨a, fs, h1, h2, h3⟩ := h; exact ⟨_, _, _, _, h3, Nat.le_refl _, fun _ _ _ h9 => ⟨a, fs, h1, h2, h9⟩⟩
  next => exact h.elim
/-- the call of a lambda (class c, body m) that holds an int -/
def o_lamcall (m c : Nat) : JIns := fun C K _ pc L S H => match S with
  | .inr (.inl s) :: .inr (.inl r) :: S' => bif Nat.ble (jWs S') 8 then ∃ (a : Nat) (x v : Int32) (H1 : JHp), r = some a ∧ job H a c [jI x] ∧ C m [jI x, jR s] H (.inl (some (jI v))) H1 ∧ K (pc + 5) L (jI v :: S') H1 else False
  | _ => False
theorem nf_lamcall (m c : Nat) : jNF (o_lamcall m c) := fun C K Rt pc L S H h => by
  unfold o_lamcall at h ⊢
  split at h
  next s r S' =>
    cases eb : Nat.ble (jWs S') 8 with
    | false => rw [eb] at h; exact h.elim
    | true =>
      rw [eb] at h
      obtain ⟨a, x, v, H1, h1, h2, h3, h4⟩ := h
      refine ⟨[(m, [jI x, jR s], H, .inl (some (jI v)), H1)], .inl (pc + 5, L, jI v :: S', H1), ?_, h4, fun hq => hq _ List.mem_cons_self, fun C' K' Rt' hq hk9 => ?_⟩
      · intro q hq
        cases List.mem_singleton.mp hq
        exact h3
      · exact ⟨a, x, v, H1, h1, h2, hq _ List.mem_cons_self, hk9⟩
  next => exact h.elim
def jmem : List Nat → Nat → Bool
  | [], _ => false
  | a :: l, n => Nat.beq a n || jmem l n
/-- all of a body's instructions in normal form -/
def jAll : List (Nat × JIns) → Prop
  | [] => True
  | q :: l => jNF q.2 ∧ jAll l
theorem jAll_n : jAll [] := trivial
theorem jAll_c {q : Nat × JIns} {l : List (Nat × JIns)} (h : jNF q.2) (h2 : jAll l) : jAll (q :: l) := ⟨h, h2⟩
theorem jAll_i {c : Bool} {a b : List (Nat × JIns)} (ha : jAll a) (hb : jAll b) : jAll (bif c then a else b) := by
  cases c
  · exact hb
  · exact ha
theorem jAll_mem : ∀ {l : List (Nat × JIns)}, jAll l → ∀ q ∈ l, jNF q.2 := by
  intro l
  induction l with
  | nil => intro _ q hq; cases hq
  | cons a l ih =>
    intro h q hq
    rcases List.mem_cons.mp hq with e | e
    · rw [e]; exact h.1
    · exact ih h.2 q e
