/-! SOUNDNESS of the abstract machine over the kit's judgement W: relation, context -/
set_option maxRecDepth 100000
def TX2 : u_T := fun _ => ("", "", "", false)
def jcl : List vw_C := [(RX0, TX0, 8), (RX1, TX1, 9), (RX2, TX2, 0), (RX3, TX3, 18), (RX4, TX4, 6), (RX5, TX5, 8), (RX6, TX6, 4), (RX7, TX7, 4), (RX8, TX8, 2), (RX9, TX9, 7), (RX10, TX10, 4), (RJ2, TJ2, 3), (RJ4, TJ4, 4), (RJ6, TJ6, 9), (RJ7, TJ7, 3), (RJ9, TJ9, 4), (RJ10, TJ10, 4), (RJ12, TJ12, 4), (RJ15, TJ15, 5), (RJ18, TJ18, 6), (RJ23, TJ23, 6), (RJ25, TJ25, 1), (RJ29, TJ29, 1), (RJ31, TJ31, 4), (RJ32, TJ32, 3), (RJ33, TJ33, 6), (RJ34, TJ34, 4), (RJ36, TJ36, 4), (RJ37, TJ37, 3), (RJ38, TJ38, 1), (RJ40, TJ40, 5), (RJ41, TJ41, 5), (RJ42, TJ42, 4)]
abbrev jlam : Nat := 999
/-- classes and field places; array classes; the heap at the start; the addresses of constants -/
abbrev JE : Type := va_G × (Nat → ClassId) × State × JG
def jtys (dA : Nat → ClassId) : List (ClassId × FieldType) := [(dA 0, .int), (dA 1, .long), (dA 2, .byte), (dA 3, .object "java/lang/Object"), (dA 4, .object "UnheardBells$Count"), (dA 5, .object "java/lang/Integer")]
def jat (E : JE) (a : Nat) (c : JCel) (Hr : Heap) : Prop := match c with
  | .inl o => (∃ r : vw_C, jcl[o.1]? = some r ∧ o.2.length = r.2.2 ∧ t_OB a (E.1.1 o.1) r.2.2 (E.1.2 o.1) Hr (vp_V (o.2.map jV))) ∨ (o.1 = jlam ∧ Hr[a]? = some { cls := E.1.1 jlam, slots := (o.2.map jV).toArray, vm := .none })
  | .inr k => Hr[a]? = some (vp_cell (E.2.1 k.1) k.2)
def jtls : List FieldType := [.int, .long, .byte, .object "java/lang/Object", .object "UnheardBells$Count", .object "java/lang/Integer"]
theorem jtls_of {dA : Nat → ClassId} {k : Nat} {x : ClassId} {ty : FieldType} (h : (jtys dA)[k]? = some (x, ty)) : jtls[k]? = some ty := by
  have e : jtls = (jtys dA).map (fun q => q.2) := rfl
  rw [e, List.getElem?_map, h]
  rfl
/-- a cell that was there at the start, and is only read -/
def jro (E : JE) (a : Nat) (c : JCel) (Hr : Heap) : Prop := match c with
  | .inl o => ∃ r : vw_C, jcl[o.1]? = some r ∧ ∃ cell : Cell, Hr[a]? = some cell ∧ cell.cls = E.1.1 o.1 ∧ cell.vm.isStatics = false ∧ cell.vm ≠ .unknown ∧ ∀ k v, jn o.2 k = some v → cell.slots[E.1.2 o.1 k]? = some (jV v)
  | .inr k => ∃ (ty : FieldType) (cell : Cell), jtls[k.1]? = some ty ∧ Hr[a]? = some cell ∧ ArrOfT E.2.2.1 cell.cls ty ∧ cell.vm.isStatics = false ∧ cell.vm ≠ .unknown ∧ cell.slots = (vp_cell 0 k.2).slots
def jrel (E : JE) (H : JHp) (Hr : Heap) : Prop := Hr.size = H.2.1 ∧ E.2.2.1.heap.size ≤ H.2.1 ∧ (∀ q : Nat, q < E.2.2.1.heap.size → Hr[q]? = E.2.2.1.heap[q]?) ∧ ∀ a b c, H.1 a = some (b, c) → (b = true → E.2.2.1.heap.size ≤ a ∧ jat E a c Hr) ∧ (b = false → jro E a c Hr)
def jloc (L : JLoc) (ls : Array Slot) (nL : Nat) : Prop := L.length = nL ∧ ls.size = nL ∧ lv_wf ls ∧ ∀ i v, jn L i = some (some v) → ls[i]? = some (.val (jV v))
theorem jat.kept {E : JE} {a : Nat} {c : JCel} {H H1 : Heap} (h : jat E a c H) (hq : H1[a]? = H[a]?) : jat E a c H1 := by
  rcases c with o | k
  · rcases h with ⟨r, h1, h2, h3⟩ | ⟨h1, h2⟩
    · exact Or.inl ⟨r, h1, h2, h3.kept hq⟩
    · exact Or.inr ⟨h1, by rw [hq]; exact h2⟩
  · show H1[a]? = _
    rw [hq]
    exact h
theorem jat.lt {E : JE} {a : Nat} {c : JCel} {H : Heap} (h : jat E a c H) : a < H.size := by
  rcases c with o | k
  · rcases h with ⟨r, h1, h2, cell, h3, -⟩ | ⟨h1, h2⟩
    · exact (Array.getElem?_eq_some_iff.mp h3).1
    · exact (Array.getElem?_eq_some_iff.mp h2).1
  · exact (Array.getElem?_eq_some_iff.mp (show H[a]? = some (vp_cell (E.2.1 k.1) k.2) from h)).1
theorem jro.kept {E : JE} {a : Nat} {c : JCel} {H H1 : Heap} (h : jro E a c H) (hq : H1[a]? = H[a]?) : jro E a c H1 := by
  rcases c with o | k
  · obtain ⟨r, h1, cell, h2, h3⟩ := h
    exact ⟨r, h1, cell, by rw [hq]; exact h2, h3⟩
  · obtain ⟨ty, cell, h1, h2, h3⟩ := h
    exact ⟨ty, cell, h1, by rw [hq]; exact h2, h3⟩
theorem jro.lt {E : JE} {a : Nat} {c : JCel} {H : Heap} (h : jro E a c H) : a < H.size := by
  rcases c with o | k
  · obtain ⟨r, h1, cell, h2, h3⟩ := h
    exact (Array.getElem?_eq_some_iff.mp h2).1
  · obtain ⟨ty, cell, h1, h2, h3⟩ := h
    exact (Array.getElem?_eq_some_iff.mp h2).1
theorem jrel.tr {E : JE} {H : JHp} {Hr : Heap} (h : jrel E H Hr) {a : Nat} {c : JCel} (h0 : H.1 a = some (true, c)) : E.2.2.1.heap.size ≤ a ∧ jat E a c Hr := (h.2.2.2 _ _ _ h0).1 rfl
theorem jrel.up {E : JE} {H : JHp} {Hr H1 : Heap} (h : jrel E H Hr) {a : Nat} {c c0 : JCel} (h0 : H.1 a = some (true, c0)) (hs : H1.size = Hr.size) (hk : ∀ q, q ≠ a → H1[q]? = Hr[q]?) (hc : jat E a c H1) : jrel E (jup H a c) H1 := by
  have hb := (h.tr h0).1
  obtain ⟨h1, h2, h3, h4⟩ := h
  refine ⟨by rw [hs]; exact h1, h2, fun q hq => by rw [hk q (by omega)]; exact h3 q hq, fun q b c' he => ?_⟩
  have he : (if q = a then some (true, c) else H.1 q) = some (b, c') := he
  by_cases hqa : q = a
  · rw [if_pos hqa] at he
    cases he
    rw [hqa]
    exact ⟨fun _ => ⟨hb, hc⟩, fun e => by cases e⟩
  · rw [if_neg hqa] at he
    exact ⟨fun e => ⟨((h4 _ _ _ he).1 e).1, ((h4 _ _ _ he).1 e).2.kept (hk q hqa)⟩, fun e => ((h4 _ _ _ he).2 e).kept (hk q hqa)⟩
theorem jrel.new {E : JE} {H : JHp} {Hr : Heap} (h : jrel E H Hr) {c : JCel} {n : Nat} {cell : Cell} (hc : jat E Hr.size c (Hr.push cell)) : jrel E (jnew H c n) (Hr.push cell) := by
  obtain ⟨h1, h2, h3, h4⟩ := h
  have hk : ∀ q, q < Hr.size → (Hr.push cell)[q]? = Hr[q]? := fun q hq => by rw [Array.getElem?_push_lt hq, ← Array.getElem?_eq_getElem]
  refine ⟨?_, ?_, ?_, ?_⟩
  · show (Hr.push cell).size = H.2.1 + 1
    rw [Array.size_push, h1]
  · exact Nat.le_succ_of_le h2
  · intro q hq
    rw [hk q (by omega)]
    exact h3 q hq
  · intro q b c' he
    have he : (if q = H.2.1 then some (true, c) else H.1 q) = some (b, c') := he
    by_cases hqa : q = H.2.1
    · rw [if_pos hqa] at he
      cases he
      rw [hqa, ← h1]
      exact ⟨fun _ => ⟨by rw [h1]; exact h2, hc⟩, fun e => by cases e⟩
    · rw [if_neg hqa] at he
      exact ⟨fun e => ⟨((h4 _ _ _ he).1 e).1, ((h4 _ _ _ he).1 e).2.kept (hk _ ((h4 _ _ _ he).1 e).2.lt)⟩, fun e => ((h4 _ _ _ he).2 e).kept (hk _ ((h4 _ _ _ he).2 e).lt)⟩
/-! locals -/
theorem jn_lt {α : Type} : ∀ {l : List α} {n : Nat} {a : α}, jn l n = some a → n < l.length := by
  intro l
  induction l with
  | nil => intro n a h; cases h
  | cons b l ih =>
    intro n a h
    cases n with
    | zero => exact Nat.zero_lt_succ _
    | succ n => exact Nat.succ_lt_succ (ih h)
theorem jn_get {α : Type} : ∀ (l : List α) (n : Nat), jn l n = l[n]? := by
  intro l
  induction l with
  | nil => intro n; rfl
  | cons b l ih =>
    intro n
    cases n with
    | zero => rfl
    | succ n => exact (ih n).trans (by simp)
theorem jset_len {α : Type} : ∀ (l : List α) (n : Nat) (a : α), (jset l n a).length = l.length := by
  intro l
  induction l with
  | nil => intro n a; rfl
  | cons b l ih =>
    intro n a
    cases n with
    | zero => rfl
    | succ n => exact congrArg (· + 1) (ih n a)
theorem jset_eq {α : Type} : ∀ (l : List α) (n : Nat) (a : α), jset l n a = l.set n a := by
  intro l
  induction l with
  | nil => intro n a; rfl
  | cons b l ih =>
    intro n a
    cases n with
    | zero => rfl
    | succ n => exact (congrArg (b :: ·) (ih n a)).trans (by simp)
theorem jW_cat (v : JVal) : (jV v).category = jW v := by
  rcases v with x | r | x | x | x
  · rfl
  · cases r <;> rfl
  · rfl
  · rfl
  · rfl
theorem jWs_cat (S : List JVal) : ((S.map jV).map fun v => v.category).sum = jWs S := by
  induction S with
  | nil => rfl
  | cons v S ih => simp only [List.map_cons, List.sum_cons, jW_cat, ih, jWs]
/-- the listed locals -/
def jlst : Nat → JLoc → List (Nat × Value)
  | _, [] => []
  | i, none :: L => jlst (i + 1) L
  | i, some v :: L => (i, jV v) :: jlst (i + 1) L
theorem jlst_mem : ∀ (L : JLoc) (i k : Nat) (v : JVal), jn L k = some (some v) → (i + k, jV v) ∈ jlst i L := by
  intro L
  induction L with
  | nil => intro i k v h; cases h
  | cons a L ih =>
    intro i k v h
    cases k with
    | zero =>
      have h : some a = some (some v) := h
      cases h
      exact List.mem_cons_self
    | succ k =>
      have h1 := ih (i + 1) k v h
      rw [show i + 1 + k = i + (k + 1) by omega] at h1
      cases a with
      | none => exact h1
      | some w => exact List.mem_cons_of_mem _ h1
theorem jlst_of : ∀ (L : JLoc) (i : Nat) (q : Nat × Value), q ∈ jlst i L → ∃ k v, q = (i + k, jV v) ∧ jn L k = some (some v) := by
  intro L
  induction L with
  | nil => intro i q h; cases h
  | cons a L ih =>
    intro i q h
    cases a with
    | none =>
      obtain ⟨k, v, h1, h2⟩ := ih (i + 1) q h
      exact ⟨k + 1, v, by rw [h1, show i + 1 + k = i + (k + 1) by omega], h2⟩
    | some w =>
      rcases List.mem_cons.mp h with e | e
      · exact ⟨0, w, e, rfl⟩
      · obtain ⟨k, v, h1, h2⟩ := ih (i + 1) q e
        exact ⟨k + 1, v, by rw [h1, show i + 1 + k = i + (k + 1) by omega], h2⟩
theorem jloc.has {L : JLoc} {ls : Array Slot} {nL : Nat} (h : jloc L ls nL) : lv_has ls nL (jlst 0 L) := by
  refine ⟨h.2.1, h.2.2.1, fun q hq => ?_⟩
  obtain ⟨k, v, e, hk⟩ := jlst_of L 0 q hq
  rw [e, Nat.zero_add]
  exact h.2.2.2 k v hk
theorem jput_len : ∀ (L : JLoc) (i : Nat) (v : JVal), (jput L i v).length = L.length := by
  intro L
  induction L with
  | nil => intro i v; rfl
  | cons a L ih =>
    intro i v
    match i with
    | 0 => rfl
    | 1 => exact congrArg (· + 1) (ih 0 v)
    | n + 2 => exact congrArg (· + 1) (ih (n + 1) v)
theorem jput2_len : ∀ (L : JLoc) (i : Nat) (v : JVal), i + 1 < L.length → (jput2 L i v).length = L.length := by
  intro L
  induction L with
  | nil => intro i v h; exact absurd h (Nat.not_lt_zero _)
  | cons a L ih =>
    intro i v h
    match i, h with
    | 0, h => cases L <;> rfl
    | 1, h => exact congrArg (· + 1) (ih 0 v (Nat.lt_of_succ_lt_succ h))
    | n + 2, h => exact congrArg (· + 1) (ih (n + 1) v (Nat.lt_of_succ_lt_succ h))
theorem jclr_some {a : Option JVal} {u : JVal} (h : jclr a = some u) : a = some u ∧ jW u = 1 := by
  rcases a with _ | x | r | x | x | x
  · cases h
  · cases h; exact ⟨rfl, rfl⟩
  · cases h; exact ⟨rfl, rfl⟩
  · cases h
  · cases h; exact ⟨rfl, rfl⟩
  · cases h
theorem jput_at : ∀ (L : JLoc) (i : Nat) (v : JVal) (k : Nat) (u : JVal), jn (jput L i v) k = some (some u) → (k = i ∧ u = v) ∨ (k ≠ i ∧ jn L k = some (some u) ∧ (k + 1 = i → jW u = 1)) := by
  intro L
  induction L with
  | nil => intro i v k u h; cases h
  | cons a L ih =>
    intro i v k u h
    match i, k with
    | 0, 0 =>
      have h : some (some v) = some (some u) := h
      cases h
      exact Or.inl ⟨rfl, rfl⟩
    | 0, k + 1 => exact Or.inr ⟨by omega, h, fun e => by omega⟩
    | 1, 0 =>
      have h : some (jclr a) = some (some u) := h
      obtain ⟨h1, h2⟩ := jclr_some (Option.some.inj h)
      exact Or.inr ⟨by omega, by rw [h1]; rfl, fun _ => h2⟩
    | 1, k + 1 =>
      rcases ih 0 v k u h with ⟨h1, h2⟩ | ⟨h1, h2, h3⟩
      · exact Or.inl ⟨by omega, h2⟩
      · exact Or.inr ⟨by omega, h2, fun e => by omega⟩
    | n + 2, 0 => exact Or.inr ⟨by omega, h, fun e => by omega⟩
    | n + 2, k + 1 =>
      rcases ih (n + 1) v k u h with ⟨h1, h2⟩ | ⟨h1, h2, h3⟩
      · exact Or.inl ⟨by omega, h2⟩
      · exact Or.inr ⟨by omega, h2, fun e => h3 (by omega)⟩
theorem jput2_at : ∀ (L : JLoc) (i : Nat) (v : JVal) (k : Nat) (u : JVal), jn (jput2 L i v) k = some (some u) → (k = i ∧ u = v) ∨ (k ≠ i ∧ k ≠ i + 1 ∧ jn L k = some (some u) ∧ (k + 1 = i → jW u = 1)) := by
  intro L
  induction L with
  | nil => intro i v k u h; cases h
  | cons a L ih =>
    intro i v k u h
    match i, k, h with
    | 0, 0, h =>
      have h : some (some v) = some (some u) := h
      cases h
      exact Or.inl ⟨rfl, rfl⟩
    | 0, k + 1, h =>
      cases L with
      | nil => cases h
      | cons b L =>
        cases k with
        | zero => cases h
        | succ k => exact Or.inr ⟨by omega, by omega, h, fun e => by omega⟩
    | 1, 0, h =>
      have h : some (jclr a) = some (some u) := h
      obtain ⟨h1, h2⟩ := jclr_some (Option.some.inj h)
      exact Or.inr ⟨by omega, by omega, by rw [h1]; rfl, fun _ => h2⟩
    | 1, k + 1, h =>
      rcases ih 0 v k u h with ⟨h1, h2⟩ | ⟨h1, h2, h3, h4⟩
      · exact Or.inl ⟨by omega, h2⟩
      · exact Or.inr ⟨by omega, by omega, h3, fun e => by omega⟩
    | n + 2, 0, h => exact Or.inr ⟨by omega, by omega, h, fun e => by omega⟩
    | n + 2, k + 1, h =>
      rcases ih (n + 1) v k u h with ⟨h1, h2⟩ | ⟨h1, h2, h3, h4⟩
      · exact Or.inl ⟨by omega, h2⟩
      · exact Or.inr ⟨by omega, by omega, h3, fun e => h4 (by omega)⟩
theorem jloc.put {L : JLoc} {ls ls' : Array Slot} {nL i : Nat} {v : JVal} (h : jloc L ls nL) (h' : lv_has ls' nL ((i, jV v) :: (jlst 0 L).filter (fun q => !(q.1 == i) && !(q.1 + 1 == i && q.2.category == 2)))) : jloc (jput L i v) ls' nL := by
  refine ⟨(jput_len _ _ _).trans h.1, h'.1, h'.2.1, fun k u hk => ?_⟩
  rcases jput_at _ _ _ _ _ hk with ⟨h1, h2⟩ | ⟨h1, h2, h3⟩
  · rw [h1, h2]
    exact h'.2.2 (i, jV v) List.mem_cons_self
  · have hm := jlst_mem L 0 k u h2
    rw [Nat.zero_add] at hm
    refine h'.2.2 (k, jV u) (List.mem_cons_of_mem _ (List.mem_filter.mpr ⟨hm, ?_⟩))
    rw [jW_cat]
    by_cases he : k + 1 = i
    · simp [h1, h3 he]
    · simp [h1, he]
theorem jloc.put2 {L : JLoc} {ls ls' : Array Slot} {nL i : Nat} {v : JVal} (h : jloc L ls nL) (hi : i + 1 < nL) (h' : lv_has ls' nL ((i, jV v) :: (jlst 0 L).filter (fun q => !(q.1 == i) && (!(q.1 == i + 1) && !(q.1 + 1 == i && q.2.category == 2))))) : jloc (jput2 L i v) ls' nL := by
  refine ⟨(jput2_len _ _ _ (by rw [h.1]; exact hi)).trans h.1, h'.1, h'.2.1, fun k u hk => ?_⟩
  rcases jput2_at _ _ _ _ _ hk with ⟨h1, h2⟩ | ⟨h1, h2, h3, h4⟩
  · rw [h1, h2]
    exact h'.2.2 (i, jV v) List.mem_cons_self
  · have hm := jlst_mem L 0 k u h3
    rw [Nat.zero_add] at hm
    refine h'.2.2 (k, jV u) (List.mem_cons_of_mem _ (List.mem_filter.mpr ⟨hm, ?_⟩))
    rw [jW_cat]
    by_cases he : k + 1 = i
    · simp [h1, h2, h4 he]
    · simp [h1, h2, he]

