/-! THE LAW OUT OF THE ABSTRACT MACHINE -/
def R_law : String := "UnheardBellsLaw"
def lw_P (b : Addr) (xs : List Int32) (args : Array Value) (s : State) : Prop := args = #[.ref b] ∧ s.IntsAt b xs ∧ xs.length ≤ 96 ∧ (Jvm.Cond.and given_1 narrow_1).before args s = true
def lw_Q (_ : Array Value) (s : State) (o : Outcome) (t : State) : Prop := o = .returned (some (.int 1)) ∧ Framed s o t [] 1200048 5501818
def lw_Z (below : List Frame) (a : Array Value) (s : State) : State → Prop := fun t => ∃ o, t.status = .running ∧ Ended t below o ∧ lw_Q a s o t
/-- the law's own end, with 1 on the stack, nothing written that was there before, its room as the claim has it -/
theorem lw_ret {p : Program} {l : Launch} {e : Env} {s : State} {m : MethodId} {below : List Frame} {meth : Method} {c : Code} {b : Nat} (hx : p.tables.exec = Jvm.exec) (hb : c.code = code) (hr : meth.sig.returnType = ret) (hlocks : meth.locks = false) {pc : Nat} {H : Heap} {ls : Array Slot} (hdg : decode code pc = .ok (.ireturn, 1)) : W p l e room_1 s m #[Value.ref b] below meth c H [] 1200048 5501818 (lw_Z below #[Value.ref b] s) (F0 m pc ls [.int 1]) := by
  intro T hT X
  obtain ⟨fs, hret, hrun, hended, hW, hframe⟩ := X.leave (v := some (.int 1)) (hlocks := hlocks) (fun h => by rw [hr] at h; cases h)
  have hmeth' : T.vm.method? m = some meth := X.method'
  refine ⟨T.setFrames fs, ?_, .returned (some (.int 1)), hrun, hended, rfl, ⟨_, rfl⟩, hW, hframe⟩
  jvm_step X.here [X.here.top, hx, hb, hdg, hmeth', hr, ret, narrow_b1]
  (try refine ⟨rfl, ?_⟩); (try refine ⟨rfl, ?_⟩)
  first | (intro acts; rw [hret _ acts rfl rfl rfl]) | rw [hret _ _ rfl rfl rfl]
  exact Steps.refl _
/-- what holds at the law's entry: the machine, the code, the tables' words (any of lw_tbl by 'hts w (by decide +kernel)'), the script of L ints xs at the cell b, what the Statement gives of the start (any of its parts by flat_of_before) -/
def lw_At (p : Program) (s : State) (m : MethodId) (meth : Method) (c : Code) (b L : Nat) (xs : Nat → Int32) : Prop :=
  p.tables.exec = Jvm.exec ∧ c.code = code ∧ meth.sig.returnType = ret ∧ c.maxLocals = 8 ∧ s.vm.findClass R_law = some m.cls ∧ (∀ w ∈ lw_tbl, w.before #[Value.ref b] s = true) ∧ va_X b L xs s s.heap ∧ b < s.heap.size ∧ meth.locks = false ∧ (Jvm.Cond.and given_1 narrow_1).before #[Value.ref b] s = true
theorem law_bridge {p : Program} {e : Env} {s : State} {m : MethodId} {below : List Frame} {meth : Method} {c : Code} (l : Launch) {b L : Nat} {xs : Nat → Int32} (C0 : lw_At p s m meth c b L xs) (htab : c.exceptionTable.toList = []) {E : JE} (hE : E.2.2.1 = s) (hkk : jkk E s) {H0 H1 : JHp} (hrel : jrel E H0 s.heap) (hw0 : H0.2.2 = 0) (hw1 : H1.2.2 ≤ 1200048)
    (hrun : jok (jprog E.2.2.2) 394 [jR (some b)] H0 (.inl (some (jI 1))) H1) : W p l e room_1 s m #[Value.ref b] below meth c s.heap [] 0 0 (lw_Z below #[Value.ref b] s) (entryFrame m ([Value.ref b] : List Value).toArray 8) := by
  obtain ⟨hx, hb, hr, hml, hown, hts, hX, hbl, hlk, hgv⟩ := C0
  obtain ⟨hla, n, hr2⟩ := hrun
  have hc : jctx E (jmOf (jinf 394)) 0 1200048 p l room_1 s m #[Value.ref b] meth c := by
    refine ⟨hx, hb, hml, hown, fun w hw => hts w (List.mem_filter.mp hw).1, hkk, hr, fun h => absurd h (by decide), htab, hlk, ⟨by decide, by decide⟩, fun k hk => ⟨?_, ?_⟩, ⟨Nat.le_refl _, fun q hq => by rw [hE]⟩, by rw [hE]; exact Nat.le_refl _⟩
    · show k ≤ 1200048
      omega
    · show k ≤ 5501818
      omega
  have hR : jRS E (jmOf (jinf 394)) 0 1200048 p l e room_1 s m #[Value.ref b] below meth c (lw_Z below #[Value.ref b] s) (fun o2 h2 => o2 = .inl (some (jI 1)) ∧ h2 = H1) := by
    rintro o H ⟨rfl, rfl⟩
    refine ⟨hw1, fun Hr locs ls hrel hlo hsz hw pc st hret => ?_⟩
    obtain ⟨h1, -, rfl⟩ := hret
    refine va_forget (fun q hq => by have h9 := hlo q hq; unfold jb0 at h9; rw [hE] at h9; exact h9) ?_
    refine W.widen (k := 1200048) (n := 5501818) (by omega) (by omega) ?_
    exact lw_ret hx hb hr hlk h1
  have hw := (jwalk (l := l) (jprog_nf E.2.2.2) (k := 394) (fun pc => jfind_snd (jS_all E 394) pc) n (fun j _ => jprog_sound E j) hc (fun o H q => by rw [q.2]; exact hw1) hR 0 _ [] H0 hr2).2
  obtain ⟨ls, e1, e2⟩ := jentry (as := [jR (some b)]) (n := 8) (show 1 ≤ 8 by decide) m
  have h := hw s.heap [] ls hrel (fun q hq => by cases hq) (Nat.le_refl _) e2 (Nat.zero_le _)
  rw [hw0] at h
  rw [show entryFrame m ([Value.ref b] : List Value).toArray 8 = F0 m 0 ls [] from e1]
  exact h
