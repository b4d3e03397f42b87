/-! SOUNDNESS: calls, copies -/
set_option maxRecDepth 100000
theorem jsp_of : ∀ (n : Nat) (acc S as S' : List JVal), jsp n acc S = some (as, S') → ∃ pre, S = pre ++ S' ∧ as = pre.reverse ++ acc ∧ pre.length = n := by
  intro n
  induction n with
  | zero =>
    intro acc S as S' h
    have h : some (acc, S) = some (as, S') := h
    cases h
    exact ⟨[], rfl, rfl, rfl⟩
  | succ n ih =>
    intro acc S as S' h
    cases S with
    | nil => cases h
    | cons v S =>
      obtain ⟨pre, h1, h2, h3⟩ := ih (v :: acc) S as S' h
      exact ⟨v :: pre, by rw [h1]; rfl, by rw [h2]; simp, by simp [h3]⟩
theorem jsp_stack {n : Nat} {S as S' : List JVal} (h : jsp n [] S = some (as, S')) : S.map jV = (as.map jV).reverse ++ S'.map jV ∧ as.length = n := by
  obtain ⟨pre, h1, h2, h3⟩ := jsp_of n [] S as S' h
  rw [List.append_nil] at h2
  subst h2
  exact ⟨by rw [h1]; simp, by simp [h3]⟩
theorem jpush_map (v : Option JVal) (S : JSt) : (jpush v S).map jV = (v.map jV).toList ++ S.map jV := by cases v <;> rfl
theorem jpre.blind {E : JE} {as : List JVal} {H : JHp} : FrameBlind (jpre E as H) := fun a U g mk q => ⟨q.1, q.2.1, jkk.same (u := U) rfl q.2.2⟩
theorem jpre.of {E : JE} {as : List JVal} {H : JHp} {Hr : Heap} {s : State} (hr : jrel E H Hr) (hkk : jkk E s) : ∀ U : State, U.heap = Hr → s.WarmedH U.vm → jpre E as H (as.map jV).toArray U := fun U hU hW => ⟨rfl, by rw [hU]; exact hr, jkk.warm hW hkk⟩
section SDK
variable {p : Program} {l : Launch} {e : Env} {R : Room} {s : State} {m : MethodId} {args : Array Value} {below : List Frame} {meth : Method} {c : Code} {Q : State → Prop}
theorem jrun3 {E : JE} {H1 : JHp} {Hr : Heap} {locs : List Loc} {cells slots k pc : Nat} {ls : Array Slot} {st0 rest : List Value} {a : Array Value} {v : Option JVal} (hr : va_Run p l e R s m args below meth c Hr locs cells slots k k (F0 m pc ls st0) rest (jqc E v H1 a) (fun a => jb0 E ≤ a)) (hlo : ∀ q ∈ locs, jb0 E ≤ q.base)
    (kk : ∀ (Hr1 : Heap) (locs1 : List Loc), jrel E H1 Hr1 → (∀ q ∈ locs1, jb0 E ≤ q.base) → Hr.size ≤ Hr1.size → W p l e R s m args below meth c Hr1 locs1 (cells + k) (slots + k) Q (F0 m (pc + 3) ls ((v.map jV).toList ++ rest))) : W p l e R s m args below meth c Hr locs cells slots Q (F0 m pc ls st0) := by
  intro T hT X
  obtain ⟨v', st₀, t, T', L, h0, X', hL, e1, e2, ⟨hv, hrel, hsz⟩, st⟩ := hr T hT X
  cases hv
  obtain ⟨t2, a1, b1⟩ := kk T'.heap (locs ++ L) (by rw [e1]; exact hrel) (fun q hq => (List.mem_append.mp hq).elim (hlo q) (hL q)) (by rw [e1, ← h0]; exact hsz) T' rfl X'
  exact ⟨t2, st t2 a1, b1⟩
theorem jrun5 {E : JE} {H1 : JHp} {Hr : Heap} {locs : List Loc} {cells slots k pc : Nat} {ls : Array Slot} {st0 rest : List Value} {a : Array Value} {v : Option JVal} (hr : va_Run5 p l e R s m args below meth c Hr locs cells slots k k (F0 m pc ls st0) rest (jqc E v H1 a) (fun a => jb0 E ≤ a)) (hlo : ∀ q ∈ locs, jb0 E ≤ q.base)
    (kk : ∀ (Hr1 : Heap) (locs1 : List Loc), jrel E H1 Hr1 → (∀ q ∈ locs1, jb0 E ≤ q.base) → Hr.size ≤ Hr1.size → W p l e R s m args below meth c Hr1 locs1 (cells + k) (slots + k) Q (F0 m (pc + 5) ls ((v.map jV).toList ++ rest))) : W p l e R s m args below meth c Hr locs cells slots Q (F0 m pc ls st0) := by
  intro T hT X
  obtain ⟨v', st₀, t, T', L, h0, X', hL, e1, e2, ⟨hv, hrel, hsz⟩, st⟩ := hr T hT X
  cases hv
  obtain ⟨t2, a1, b1⟩ := kk T'.heap (locs ++ L) (by rw [e1]; exact hrel) (fun q hq => (List.mem_append.mp hq).elim (hlo q) (hL q)) (by rw [e1, ← h0]; exact hsz) T' rfl X'
  exact ⟨t2, st t2 a1, b1⟩
/-- a call that throws q -/
theorem jrunX {E : JE} {H1 : JHp} {Hr : Heap} {locs : List Loc} {cells slots k pc q : Nat} {ls : Array Slot} {st0 rest : List Value} (hr : vx_Run p l e R s m args below meth c Hr locs cells slots k k (F0 m pc ls st0) rest (fun _ _ _ => False) (jxc E q H1) (fun a => jb0 E ≤ a)) (hlo : ∀ q ∈ locs, jb0 E ≤ q.base)
    (kk : ∀ (Hr1 : Heap) (locs1 : List Loc), jrel E H1 Hr1 → (∀ q ∈ locs1, jb0 E ≤ q.base) → Hr.size ≤ Hr1.size → vx_W p l e R s m args below meth c Hr1 locs1 (cells + k) (slots + k) Q (F0 m pc ls rest) q) : W p l e R s m args below meth c Hr locs cells slots Q (F0 m pc ls st0) := by
  intro T hT X
  rcases hr T hT X with ⟨v', st₀, t, T', L, h0, X', hL, e1, e2, hF, st⟩ | ⟨q', st₀, t, T', L, Ex, ce, h0, X', hL, e1, e2, ⟨hq, -, hrel, hsz⟩, hce, hcv, hcl, st⟩
  · exact hF.elim
  · subst hq
    obtain ⟨t2, a1, b1⟩ := kk T'.heap (locs ++ L) (by rw [e1]; exact hrel) (fun q hq => (List.mem_append.mp hq).elim (hlo q) (hL q)) (by rw [e1, ← h0]; exact hsz) T' rfl X'
    exact ⟨t2, st.trans a1, b1⟩
end SDK
theorem jbud {H H1 : JHp} {w0 wE : Nat} {R : Room} (hw : w0 ≤ H.2.2) (h1 : H.2.2 ≤ H1.2.2) (hE : H1.2.2 ≤ wE) (hcel : ∀ k, k ≤ wE - w0 → k ≤ R.cells ∧ k ≤ R.slots) : ((H.2.2 - w0) + (H1.2.2 - H.2.2) ≤ R.cells ∧ (H.2.2 - w0) + (H1.2.2 - H.2.2) ≤ R.slots) ∧ (H.2.2 - w0) + (H1.2.2 - H.2.2) = H1.2.2 - w0 := by
  obtain ⟨h2, h3⟩ := hcel (H1.2.2 - w0) (by omega)
  omega
section SDC
variable {E : JE} {T : Nat → JI} {M : JM} {pc : Nat} {mi n idx L d : Nat} {y : MethodName} {b : ByteArray} {r : Option FieldType} {rk : JRk}
theorem sd_callS (hT : T mi = (y, b, L, r, none, d)) (hrk : jRkL rk) (hL : L ≤ 20) (hdep : d + 1 ≤ M.2.2.2.2.2.2) (hlen : (parseMethodDescriptor y.desc).map (fun d => d.parameters.length) = some n) (hmh : y.cls ≠ "java/lang/invoke/MethodHandle" ∧ y.cls ≠ "java/lang/invoke/VarHandle") (hq1 : Cond.methodLink M.1 idx y ∈ lw_all) (hq2 : Cond.static y ∈ lw_all) (hq3 : Cond.initialized y.cls ∈ lw_all) (hq4 : Cond.code y b L r ∈ lw_all) (hd : decode M.2.1 pc = .ok (.invokestatic idx, 3)) : jsnd E T M pc (o_call mi n rcS rk 3) := by
  intro w0 wE p l e R s m args below meth c Q hc Cc K Rt hC hK hR Lo S H hI Hr locs ls hr hlo hz hl hw
  obtain ⟨hx, hb, hml, hown, hts, hkk, hret, hin, htab, hlk, hroom, hcel, hst, hb0⟩ := hc
  unfold o_call at hI
  split at hI
  next as S' es =>
    cases eb : Nat.ble (jWs S') 8 with
    | false => rw [eb] at hI; exact hI.elim
    | true =>
      rw [eb] at hI
      have hs8 : 2 * 0 + ((S'.map jV).map fun v => v.category).sum ≤ 8 := by rw [jWs_cat]; exact Nat.le_trans (Nat.le_of_eq (Nat.zero_add _)) (Nat.le_of_ble_eq_true eb)
      obtain ⟨hstk, hlas⟩ := jsp_stack es
      have hI : rk _ := hI
      obtain ⟨v, ⟨H1, g1, g2⟩, -⟩ := hrk _ hI
      obtain ⟨hle, hM⟩ := hC _ _ _ _ _ g1
      rw [hT] at hM
      obtain ⟨hbud, hbe⟩ := jbud hw hle (hK _ _ _ _ g2).1 hcel
      refine jrun3 (va_runS (As := as.map jV) (rest := S'.map jV) ⟨hx, hb, hml, hown, hts⟩ hM (va_cwS n hts (lw_S hq1 hq2 hq3 hq4) rfl rfl rfl ⟨hmh.1, hmh.2, hlen⟩ ⟨Nat.le_trans hdep hroom.1, by have h1 := hroom.2; show 8 + (L + 11) + jlc d ≤ R.locals; have h2 := jlc_step hdep; omega⟩) ⟨jpre.blind, jpre.of hr hkk⟩ rfl (by rw [List.length_map]; exact hlas) hl.2.1 hstk hs8 hd hbud) hlo (fun Hr1 locs1 q1 q2 q3 => ?_)
      rw [hbe, ← jpush_map]
      exact (hK _ _ _ _ g2).2 Hr1 locs1 ls q1 q2 (Nat.le_trans hz q3) hl (Nat.le_trans hw hle)
  next => exact hI.elim
theorem sd_callSN (hT : T mi = (y, b, L, r, none, d)) (hrk : jRkL rk) (hL : L ≤ 20) (hdep : d + 1 ≤ M.2.2.2.2.2.2) (hlen : (parseMethodDescriptor y.desc).map (fun d => d.parameters.length) = some n) (hmh : y.cls ≠ "java/lang/invoke/MethodHandle" ∧ y.cls ≠ "java/lang/invoke/VarHandle") {host : String} (hq1 : Cond.methodLinkNest M.1 idx y host ∈ jnw) (hq2 : Cond.static y ∈ lw_all) (hq3 : Cond.initialized y.cls ∈ lw_all) (hq4 : Cond.code y b L r ∈ lw_all) (hd : decode M.2.1 pc = .ok (.invokestatic idx, 3)) : jsnd E T M pc (o_call mi n rcS rk 3) := by
  intro w0 wE p l e R s m args below meth c Q hc Cc K Rt hC hK hR Lo S H hI Hr locs ls hr hlo hz hl hw
  obtain ⟨hx, hb, hml, hown, hts, hkk, hret, hin, htab, hlk, hroom, hcel, hst, hb0⟩ := hc
  unfold o_call at hI
  split at hI
  next as S' es =>
    cases eb : Nat.ble (jWs S') 8 with
    | false => rw [eb] at hI; exact hI.elim
    | true =>
      rw [eb] at hI
      have hs8 : 2 * 0 + ((S'.map jV).map fun v => v.category).sum ≤ 8 := by rw [jWs_cat]; exact Nat.le_trans (Nat.le_of_eq (Nat.zero_add _)) (Nat.le_of_ble_eq_true eb)
      obtain ⟨hstk, hlas⟩ := jsp_stack es
      have hI : rk _ := hI
      obtain ⟨v, ⟨H1, g1, g2⟩, -⟩ := hrk _ hI
      obtain ⟨hle, hM⟩ := hC _ _ _ _ _ g1
      rw [hT] at hM
      obtain ⟨hbud, hbe⟩ := jbud hw hle (hK _ _ _ _ g2).1 hcel
      refine jrun3 (va_runSN (As := as.map jV) (rest := S'.map jV) ⟨hx, hb, hml, hown, hts⟩ hM ⟨va_cnB n hts (lw_meth hq4) rfl rfl rfl (hkk.2.1 _ hq1) (hts _ hq3) ⟨hmh.1, hmh.2, hlen⟩ ⟨Nat.le_trans hdep hroom.1, by have h1 := hroom.2; show 8 + (L + 11) + jlc d ≤ R.locals; have h2 := jlc_step hdep; omega⟩, hts _ hq2, trivial⟩ ⟨jpre.blind, jpre.of hr hkk⟩ rfl (by rw [List.length_map]; exact hlas) hl.2.1 hstk hs8 hd hbud) hlo (fun Hr1 locs1 q1 q2 q3 => ?_)
      rw [hbe, ← jpush_map]
      exact (hK _ _ _ _ g2).2 Hr1 locs1 ls q1 q2 (Nat.le_trans hz q3) hl (Nat.le_trans hw hle)
  next => exact hI.elim
theorem sd_callV (hT : T mi = (y, b, L, r, none, d)) (hrk : jRkL rk) (hL : L ≤ 20) (hdep : d + 1 ≤ M.2.2.2.2.2.2) (hlen : (parseMethodDescriptor y.desc).map (fun d => d.parameters.length) = some n) {ci : Nat} {C : String} {U : u_T} {N : Nat} (hcl : jcl[ci]? = some (C, U, N)) (hC0 : y.cls = C) (hmh : y.cls ≠ "java/lang/invoke/MethodHandle" ∧ y.cls ≠ "java/lang/invoke/VarHandle") (hq1 : Cond.methodLink M.1 idx y ∈ lw_all) (hq2 : Cond.instanceMethod y ∈ lw_all) (hq3 : Cond.selects C y y ∈ lw_all) (hq4 : Cond.initialized C ∈ lw_all) (hq5 : Cond.code y b L r ∈ lw_all) (hd : decode M.2.1 pc = .ok (.invokevirtual idx, 3)) : jsnd E T M pc (o_call mi (n + 1) (rcV ci) rk 3) := by
  intro w0 wE p l e R s m args below meth c Q hc Cc K Rt hC hK hR Lo S H hI Hr locs ls hr hlo hz hl hw
  obtain ⟨hx, hb, hml, hown, hts, hkk, hret, hin, htab, hlk, hroom, hcel, hst, hb0⟩ := hc
  unfold o_call at hI
  split at hI
  next as S' es =>
    cases eb : Nat.ble (jWs S') 8 with
    | false => rw [eb] at hI; exact hI.elim
    | true =>
      rw [eb] at hI
      have hs8 : 2 * 0 + ((S'.map jV).map fun v => v.category).sum ≤ 8 := by rw [jWs_cat]; exact Nat.le_trans (Nat.le_of_eq (Nat.zero_add _)) (Nat.le_of_ble_eq_true eb)
      obtain ⟨hstk, hlas⟩ := jsp_stack es
      unfold rcV at hI
      split at hI
      next r0 as' =>
        obtain ⟨a, fs, rfl, ho, hI⟩ := hI
        have hstk : S.map jV = (as'.map jV).reverse ++ .ref a :: S'.map jV := by rw [hstk]; show (jV (jR (some a)) :: as'.map jV).reverse ++ _ = _; rw [List.reverse_cons, List.append_assoc]; rfl
        have hlas : (as'.map jV).length + 1 = n + 1 := by rw [List.length_map]; exact hlas
        obtain ⟨v, ⟨H1, g1, g2⟩, -⟩ := hrk _ hI
        obtain ⟨hle, hM⟩ := hC _ _ _ _ _ g1
        rw [hT] at hM
        obtain ⟨hbud, hbe⟩ := jbud hw hle (hK _ _ _ _ g2).1 hcel
        refine jrun3 (va_runV (C := C) (As := as'.map jV) (rest := S'.map jV) ⟨hx, hb, hml, hown, hts⟩ hM (cwV n hts (lw_V hq1 hq2 hq3 hq4 hq5) rfl rfl rfl ⟨hC0, hmh.1, hmh.2, hlen⟩ ⟨Nat.le_trans hdep hroom.1, by have h1 := hroom.2; show 8 + (L + 11) + jlc d ≤ R.locals; have h2 := jlc_step hdep; omega⟩) ⟨jpre.blind, jrecv hr hkk hcl ho, jpre.of (as := jR (some a) :: as') hr hkk⟩ rfl (Nat.succ.inj hlas) hl.2.1 hstk hs8 hd hbud) hlo (fun Hr1 locs1 q1 q2 q3 => ?_)
        rw [hbe, ← jpush_map]
        exact (hK _ _ _ _ g2).2 Hr1 locs1 ls q1 q2 (Nat.le_trans hz q3) hl (Nat.le_trans hw hle)
      next => exact hI.elim
  next => exact hI.elim
theorem sd_callU (hT : T mi = (y, b, L, r, none, d)) (hrk : jRkL rk) (hL : L ≤ 20) (hdep : d + 1 ≤ M.2.2.2.2.2.2) {ci : Nat} {C : String} {U : u_T} {N : Nat} (hcl : jcl[ci]? = some (C, U, N)) {owner : String} {x : MethodName} (hmh : owner ≠ "java/lang/invoke/MethodHandle" ∧ owner ≠ "java/lang/invoke/VarHandle") (hlen : (parseMethodDescriptor x.desc).map (fun d => d.parameters.length) = some n) (hyx : y = ⟨owner, x.name, x.desc⟩) (hq1 : Cond.methodLink M.1 idx x ∈ lw_all) (hq2 : Cond.sameMethod x.cls owner x.name x.desc ∈ lw_all) (hq3 : Cond.selects C x y ∈ lw_all) (hq4 : Cond.instanceMethod y ∈ lw_all) (hq5 : Cond.initialized y.cls ∈ lw_all) (hq6 : Cond.code y b L r ∈ lw_all) (hd : decode M.2.1 pc = .ok (.invokevirtual idx, 3)) : jsnd E T M pc (o_call mi (n + 1) (rcV ci) rk 3) := by
  intro w0 wE p l e R s m args below meth c Q hc Cc K Rt hC hK hR Lo S H hI Hr locs ls hr hlo hz hl hw
  obtain ⟨hx, hb, hml, hown, hts, hkk, hret, hin, htab, hlk, hroom, hcel, hst, hb0⟩ := hc
  unfold o_call at hI
  split at hI
  next as S' es =>
    cases eb : Nat.ble (jWs S') 8 with
    | false => rw [eb] at hI; exact hI.elim
    | true =>
      rw [eb] at hI
      have hs8 : 2 * 0 + ((S'.map jV).map fun v => v.category).sum ≤ 8 := by rw [jWs_cat]; exact Nat.le_trans (Nat.le_of_eq (Nat.zero_add _)) (Nat.le_of_ble_eq_true eb)
      obtain ⟨hstk, hlas⟩ := jsp_stack es
      unfold rcV at hI
      split at hI
      next r0 as' =>
        obtain ⟨a, fs, rfl, ho, hI⟩ := hI
        have hstk : S.map jV = (as'.map jV).reverse ++ .ref a :: S'.map jV := by rw [hstk]; show (jV (jR (some a)) :: as'.map jV).reverse ++ _ = _; rw [List.reverse_cons, List.append_assoc]; rfl
        have hlas : (as'.map jV).length + 1 = n + 1 := by rw [List.length_map]; exact hlas
        obtain ⟨v, ⟨H1, g1, g2⟩, -⟩ := hrk _ hI
        obtain ⟨hle, hM⟩ := hC _ _ _ _ _ g1
        rw [hT] at hM
        obtain ⟨hbud, hbe⟩ := jbud hw hle (hK _ _ _ _ g2).1 hcel
        refine jrun3 (va_runU (C := C) (As := as'.map jV) (rest := S'.map jV) ⟨hx, hb, hml, hown, hts⟩ hM (va_cwU n hts (show GoodIn lw_all (va_wsU M.1 idx C owner x y (ws_ y b L r)) from (lw_app (by intro w hw9; simp only [List.mem_cons, List.not_mem_nil, or_false] at hw9; rcases hw9 with rfl | rfl | rfl | rfl | rfl <;> assumption) (lw_meth hq6))) rfl rfl rfl hyx ⟨hmh.1, hmh.2, hlen⟩ ⟨Nat.le_trans hdep hroom.1, by have h1 := hroom.2; show 8 + (L + 11) + jlc d ≤ R.locals; have h2 := jlc_step hdep; omega⟩) ⟨jpre.blind, jrecv hr hkk hcl ho, jpre.of (as := jR (some a) :: as') hr hkk⟩ rfl (Nat.succ.inj hlas) hl.2.1 hstk hs8 hd hbud) hlo (fun Hr1 locs1 q1 q2 q3 => ?_)
        rw [hbe, ← jpush_map]
        exact (hK _ _ _ _ g2).2 Hr1 locs1 ls q1 q2 (Nat.le_trans hz q3) hl (Nat.le_trans hw hle)
      next => exact hI.elim
  next => exact hI.elim
theorem sd_callP (hT : T mi = (y, b, L, r, none, d)) (hrk : jRkL rk) (hL : L ≤ 20) (hdep : d + 1 ≤ M.2.2.2.2.2.2) {ci : Nat} {C : String} {U : u_T} {N : Nat} (hcl : jcl[ci]? = some (C, U, N)) (hlen : (parseMethodDescriptor y.desc).map (fun d => d.parameters.length) = some n) (hmh : y.cls ≠ "java/lang/invoke/MethodHandle" ∧ y.cls ≠ "java/lang/invoke/VarHandle") (hq3 : (C, y) ∈ jps) (hq1 : Cond.methodLink M.1 idx y ∈ lw_all) (hq2 : Cond.sameMethod y.cls y.cls y.name y.desc ∈ lw_all) (hq4 : Cond.instanceMethod y ∈ lw_all) (hq5 : Cond.initialized y.cls ∈ lw_all) (hq6 : Cond.code y b L r ∈ lw_all) (hd : decode M.2.1 pc = .ok (.invokevirtual idx, 3)) : jsnd E T M pc (o_call mi (n + 1) (rcV ci) rk 3) := by
  intro w0 wE p l e R s m args below meth c Q hc Cc K Rt hC hK hR Lo S H hI Hr locs ls hr hlo hz hl hw
  obtain ⟨hx, hb, hml, hown, hts, hkk, hret, hin, htab, hlk, hroom, hcel, hst, hb0⟩ := hc
  unfold o_call at hI
  split at hI
  next as S' es =>
    cases eb : Nat.ble (jWs S') 8 with
    | false => rw [eb] at hI; exact hI.elim
    | true =>
      rw [eb] at hI
      have hs8 : 2 * 0 + ((S'.map jV).map fun v => v.category).sum ≤ 8 := by rw [jWs_cat]; exact Nat.le_trans (Nat.le_of_eq (Nat.zero_add _)) (Nat.le_of_ble_eq_true eb)
      obtain ⟨hstk, hlas⟩ := jsp_stack es
      unfold rcV at hI
      split at hI
      next r0 as' =>
        obtain ⟨a, fs, rfl, ho, hI⟩ := hI
        have hstk : S.map jV = (as'.map jV).reverse ++ .ref a :: S'.map jV := by rw [hstk]; show (jV (jR (some a)) :: as'.map jV).reverse ++ _ = _; rw [List.reverse_cons, List.append_assoc]; rfl
        have hlas : (as'.map jV).length + 1 = n + 1 := by rw [List.length_map]; exact hlas
        obtain ⟨v, ⟨H1, g1, g2⟩, -⟩ := hrk _ hI
        obtain ⟨hle, hM⟩ := hC _ _ _ _ _ g1
        rw [hT] at hM
        obtain ⟨hbud, hbe⟩ := jbud hw hle (hK _ _ _ _ g2).1 hcel
        refine jrun3 (va_runU (C := C) (x := y) (owner := y.cls) (As := as'.map jV) (rest := S'.map jV) ⟨hx, hb, hml, hown, hts⟩ hM ⟨⟨rfl, rfl, ((show jlc d ≤ jlc d ∧ (d + 1 ≤ R.frames ∧ 8 + (L + 11) + jlc d ≤ R.locals) from ⟨Nat.le_refl _, ⟨Nat.le_trans hdep hroom.1, by have h1 := hroom.2; show 8 + (L + 11) + jlc d ≤ R.locals; have h2 := jlc_step hdep; omega⟩⟩).2).1, ((show jlc d ≤ jlc d ∧ (d + 1 ≤ R.frames ∧ 8 + (L + 11) + jlc d ≤ R.locals) from ⟨Nat.le_refl _, ⟨Nat.le_trans hdep hroom.1, by have h1 := hroom.2; show 8 + (L + 11) + jlc d ≤ R.locals; have h2 := jlc_step hdep; omega⟩⟩).2).2, pay_in hts (lw_meth hq6), List.mem_cons_self⟩, hts _ hq6, hts _ hq5, hmh, (fun sig h => by rw [h] at hlen; exact (Option.some.inj hlen).symm), hts _ hq1, hts _ hq2, va_Decl.of (hts _ hq4) (hts _ hq6), va_Nw.use rfl (hkk.2.2.2.2.2.2.2.2.2.2.1 _ hq3), hts _ hq4⟩ ⟨jpre.blind, jrecv hr hkk hcl ho, jpre.of (as := jR (some a) :: as') hr hkk⟩ rfl (Nat.succ.inj hlas) hl.2.1 hstk hs8 hd hbud) hlo (fun Hr1 locs1 q1 q2 q3 => ?_)
        rw [hbe, ← jpush_map]
        exact (hK _ _ _ _ g2).2 Hr1 locs1 ls q1 q2 (Nat.le_trans hz q3) hl (Nat.le_trans hw hle)
      next => exact hI.elim
  next => exact hI.elim
theorem sd_callO (hT : T mi = (y, b, L, r, none, d)) (hrk : jRkL rk) (hL : L ≤ 20) (hdep : d + 1 ≤ M.2.2.2.2.2.2) {ci : Nat} {C : String} {U : u_T} {N : Nat} (hcl : jcl[ci]? = some (C, U, N)) {owner : String} {x : MethodName} (hmh : owner ≠ "java/lang/invoke/MethodHandle" ∧ owner ≠ "java/lang/invoke/VarHandle") (hlen : (parseMethodDescriptor x.desc).map (fun d => d.parameters.length) = some n) {b0 : ByteArray} {m0 : Nat} {r0 : Option FieldType} (hq0 : Cond.code ⟨owner, x.name, x.desc⟩ b0 m0 r0 ∈ lw_all) (hq1 : Cond.methodLink M.1 idx x ∈ lw_all) (hq2 : Cond.sameMethod x.cls owner x.name x.desc ∈ lw_all) (hq7 : Cond.instanceMethod ⟨owner, x.name, x.desc⟩ ∈ lw_all) (hq3 : Cond.selects C x y ∈ lw_all) (hq4 : Cond.instanceMethod y ∈ lw_all) (hq5 : Cond.initialized y.cls ∈ lw_all) (hq6 : Cond.code y b L r ∈ lw_all) (hd : decode M.2.1 pc = .ok (.invokevirtual idx, 3)) : jsnd E T M pc (o_call mi (n + 1) (rcV ci) rk 3) := by
  intro w0 wE p l e R s m args below meth c Q hc Cc K Rt hC hK hR Lo S H hI Hr locs ls hr hlo hz hl hw
  obtain ⟨hx, hb, hml, hown, hts, hkk, hret, hin, htab, hlk, hroom, hcel, hst, hb0⟩ := hc
  unfold o_call at hI
  split at hI
  next as S' es =>
    cases eb : Nat.ble (jWs S') 8 with
    | false => rw [eb] at hI; exact hI.elim
    | true =>
      rw [eb] at hI
      have hs8 : 2 * 0 + ((S'.map jV).map fun v => v.category).sum ≤ 8 := by rw [jWs_cat]; exact Nat.le_trans (Nat.le_of_eq (Nat.zero_add _)) (Nat.le_of_ble_eq_true eb)
      obtain ⟨hstk, hlas⟩ := jsp_stack es
      unfold rcV at hI
      split at hI
      next r0 as' =>
        obtain ⟨a, fs, rfl, ho, hI⟩ := hI
        have hstk : S.map jV = (as'.map jV).reverse ++ .ref a :: S'.map jV := by rw [hstk]; show (jV (jR (some a)) :: as'.map jV).reverse ++ _ = _; rw [List.reverse_cons, List.append_assoc]; rfl
        have hlas : (as'.map jV).length + 1 = n + 1 := by rw [List.length_map]; exact hlas
        obtain ⟨v, ⟨H1, g1, g2⟩, -⟩ := hrk _ hI
        obtain ⟨hle, hM⟩ := hC _ _ _ _ _ g1
        rw [hT] at hM
        obtain ⟨hbud, hbe⟩ := jbud hw hle (hK _ _ _ _ g2).1 hcel
        refine jrun3 (va_runU (C := C) (owner := owner) (As := as'.map jV) (rest := S'.map jV) ⟨hx, hb, hml, hown, hts⟩ hM (va_cwO n hts (show GoodIn lw_all (va_wsO M.1 idx C owner x y (ws_ y b L r)) from (lw_app (by intro w hw9; simp only [List.mem_cons, List.not_mem_nil, or_false] at hw9; rcases hw9 with rfl | rfl | rfl | rfl | rfl | rfl <;> assumption) (lw_meth hq6))) rfl rfl rfl hq0 ⟨hmh.1, hmh.2, hlen⟩ ⟨Nat.le_trans hdep hroom.1, by have h1 := hroom.2; show 8 + (L + 11) + jlc d ≤ R.locals; have h2 := jlc_step hdep; omega⟩) ⟨jpre.blind, jrecv hr hkk hcl ho, jpre.of (as := jR (some a) :: as') hr hkk⟩ rfl (Nat.succ.inj hlas) hl.2.1 hstk hs8 hd hbud) hlo (fun Hr1 locs1 q1 q2 q3 => ?_)
        rw [hbe, ← jpush_map]
        exact (hK _ _ _ _ g2).2 Hr1 locs1 ls q1 q2 (Nat.le_trans hz q3) hl (Nat.le_trans hw hle)
      next => exact hI.elim
  next => exact hI.elim
theorem sd_callA (hT : T mi = (y, b, L, r, none, d)) (hrk : jRkL rk) (hL : L ≤ 20) (hdep : d + 1 ≤ M.2.2.2.2.2.2) {ci : Nat} {C : String} {U : u_T} {N : Nat} (hcl : jcl[ci]? = some (C, U, N)) {owner : String} {x : MethodName} (hmh : owner ≠ "java/lang/invoke/MethodHandle" ∧ owner ≠ "java/lang/invoke/VarHandle") (hlen : (parseMethodDescriptor x.desc).map (fun d => d.parameters.length) = some n) (hq0 : Cond.declares ⟨owner, x.name, x.desc⟩ ∈ jnw) (hq1 : Cond.methodLink M.1 idx x ∈ lw_all) (hq2 : Cond.sameMethod x.cls owner x.name x.desc ∈ lw_all) (hq3 : Cond.selects C x y ∈ lw_all) (hq4 : Cond.instanceMethod y ∈ lw_all) (hq5 : Cond.initialized y.cls ∈ lw_all) (hq6 : Cond.code y b L r ∈ lw_all) (hd : decode M.2.1 pc = .ok (.invokevirtual idx, 3)) : jsnd E T M pc (o_call mi (n + 1) (rcV ci) rk 3) := by
  intro w0 wE p l e R s m args below meth c Q hc Cc K Rt hC hK hR Lo S H hI Hr locs ls hr hlo hz hl hw
  obtain ⟨hx, hb, hml, hown, hts, hkk, hret, hin, htab, hlk, hroom, hcel, hst, hb0⟩ := hc
  unfold o_call at hI
  split at hI
  next as S' es =>
    cases eb : Nat.ble (jWs S') 8 with
    | false => rw [eb] at hI; exact hI.elim
    | true =>
      rw [eb] at hI
      have hs8 : 2 * 0 + ((S'.map jV).map fun v => v.category).sum ≤ 8 := by rw [jWs_cat]; exact Nat.le_trans (Nat.le_of_eq (Nat.zero_add _)) (Nat.le_of_ble_eq_true eb)
      obtain ⟨hstk, hlas⟩ := jsp_stack es
      unfold rcV at hI
      split at hI
      next r0 as' =>
        obtain ⟨a, fs, rfl, ho, hI⟩ := hI
        have hstk : S.map jV = (as'.map jV).reverse ++ .ref a :: S'.map jV := by rw [hstk]; show (jV (jR (some a)) :: as'.map jV).reverse ++ _ = _; rw [List.reverse_cons, List.append_assoc]; rfl
        have hlas : (as'.map jV).length + 1 = n + 1 := by rw [List.length_map]; exact hlas
        obtain ⟨v, ⟨H1, g1, g2⟩, -⟩ := hrk _ hI
        obtain ⟨hle, hM⟩ := hC _ _ _ _ _ g1
        rw [hT] at hM
        obtain ⟨hbud, hbe⟩ := jbud hw hle (hK _ _ _ _ g2).1 hcel
        refine jrun3 (va_runU (C := C) (As := as'.map jV) (rest := S'.map jV) ⟨hx, hb, hml, hown, hts⟩ hM (va_cwA n hts (show GoodIn lw_all (va_wsU M.1 idx C owner x y (ws_ y b L r)) from (lw_app (by intro w hw9; simp only [List.mem_cons, List.not_mem_nil, or_false] at hw9; rcases hw9 with rfl | rfl | rfl | rfl | rfl <;> assumption) (lw_meth hq6))) rfl rfl rfl (hkk.2.1 _ hq0) ⟨hmh.1, hmh.2, hlen⟩ ⟨Nat.le_trans hdep hroom.1, by have h1 := hroom.2; show 8 + (L + 11) + jlc d ≤ R.locals; have h2 := jlc_step hdep; omega⟩) ⟨jpre.blind, jrecv hr hkk hcl ho, jpre.of (as := jR (some a) :: as') hr hkk⟩ rfl (Nat.succ.inj hlas) hl.2.1 hstk hs8 hd hbud) hlo (fun Hr1 locs1 q1 q2 q3 => ?_)
        rw [hbe, ← jpush_map]
        exact (hK _ _ _ _ g2).2 Hr1 locs1 ls q1 q2 (Nat.le_trans hz q3) hl (Nat.le_trans hw hle)
      next => exact hI.elim
  next => exact hI.elim
theorem sd_callSU (hT : T mi = (y, b, L, r, none, d)) (hrk : jRkL rk) (hL : L ≤ 20) (hdep : d + 1 ≤ M.2.2.2.2.2.2) {ci : Nat} {C : String} {U : u_T} {N : Nat} (hcl : jcl[ci]? = some (C, U, N)) (hlen : (parseMethodDescriptor y.desc).map (fun d => d.parameters.length) = some n) (hno : y.name ≠ "<init>") (hq1 : Cond.methodLink M.1 idx y ∈ lw_all) (hq2 : Cond.sameMethod y.cls y.cls y.name y.desc ∈ lw_all) (hq3 : Cond.superclass M.1 y.cls ∈ lw_all) (hq4 : Cond.instanceMethod y ∈ lw_all) (hq5 : Cond.initialized y.cls ∈ lw_all) (hq6 : Cond.code y b L r ∈ lw_all) (hd : decode M.2.1 pc = .ok (.invokespecial idx, 3)) : jsnd E T M pc (o_call mi (n + 1) (rcV ci) rk 3) := by
  intro w0 wE p l e R s m args below meth c Q hc Cc K Rt hC hK hR Lo S H hI Hr locs ls hr hlo hz hl hw
  obtain ⟨hx, hb, hml, hown, hts, hkk, hret, hin, htab, hlk, hroom, hcel, hst, hb0⟩ := hc
  unfold o_call at hI
  split at hI
  next as S' es =>
    cases eb : Nat.ble (jWs S') 8 with
    | false => rw [eb] at hI; exact hI.elim
    | true =>
      rw [eb] at hI
      have hs8 : 2 * 0 + ((S'.map jV).map fun v => v.category).sum ≤ 8 := by rw [jWs_cat]; exact Nat.le_trans (Nat.le_of_eq (Nat.zero_add _)) (Nat.le_of_ble_eq_true eb)
      obtain ⟨hstk, hlas⟩ := jsp_stack es
      unfold rcV at hI
      split at hI
      next r0 as' =>
        obtain ⟨a, fs, rfl, ho, hI⟩ := hI
        have hstk : S.map jV = (as'.map jV).reverse ++ .ref a :: S'.map jV := by rw [hstk]; show (jV (jR (some a)) :: as'.map jV).reverse ++ _ = _; rw [List.reverse_cons, List.append_assoc]; rfl
        have hlas : (as'.map jV).length + 1 = n + 1 := by rw [List.length_map]; exact hlas
        obtain ⟨v, ⟨H1, g1, g2⟩, -⟩ := hrk _ hI
        obtain ⟨hle, hM⟩ := hC _ _ _ _ _ g1
        rw [hT] at hM
        obtain ⟨hbud, hbe⟩ := jbud hw hle (hK _ _ _ _ g2).1 hcel
        refine jrun3 (va_runSU (C := C) (hkk.1.1 ci _ hcl).2 (As := as'.map jV) (rest := S'.map jV) ⟨hx, hb, hml, hown, hts⟩ hM (va_cwSU n hts (show GoodIn lw_all (va_wsSU M.1 idx y (ws_ y b L r)) from (lw_app (by intro w hw9; simp only [List.mem_cons, List.not_mem_nil, or_false] at hw9; rcases hw9 with rfl | rfl | rfl | rfl | rfl <;> assumption) (lw_meth hq6))) rfl rfl rfl ⟨hno, hlen⟩ ⟨Nat.le_trans hdep hroom.1, by have h1 := hroom.2; show 8 + (L + 11) + jlc d ≤ R.locals; have h2 := jlc_step hdep; omega⟩) ⟨jpre.blind, jrecv hr hkk hcl ho, jpre.of (as := jR (some a) :: as') hr hkk⟩ rfl (Nat.succ.inj hlas) hl.2.1 hstk hs8 hd hbud) hlo (fun Hr1 locs1 q1 q2 q3 => ?_)
        rw [hbe, ← jpush_map]
        exact (hK _ _ _ _ g2).2 Hr1 locs1 ls q1 q2 (Nat.le_trans hz q3) hl (Nat.le_trans hw hle)
      next => exact hI.elim
  next => exact hI.elim
theorem sd_callF (hT : T mi = (y, b, L, r, none, d)) (hrk : jRkL rk) (hL : L ≤ 20) (hdep : d + 1 ≤ M.2.2.2.2.2.2) {ci : Nat} {C : String} {U : u_T} {N : Nat} (hcl : jcl[ci]? = some (C, U, N)) {x : MethodName} {cnt : Nat} (hmh : x.cls ≠ "java/lang/invoke/MethodHandle" ∧ x.cls ≠ "java/lang/invoke/VarHandle") (hlen : (parseMethodDescriptor x.desc).map (fun d => d.parameters.length) = some n) (hq0 : (C, x, y) ∈ jfw) (hq1 : Cond.methodLink M.1 idx x ∈ lw_all) (hq3 : Cond.selects C x y ∈ lw_all) (hq4 : Cond.instanceMethod y ∈ lw_all) (hq5 : Cond.initialized y.cls ∈ lw_all) (hq6 : Cond.code y b L r ∈ lw_all) (hd : decode M.2.1 pc = .ok (.invokeinterface idx cnt, 5)) : jsnd E T M pc (o_call mi (n + 1) (rcV ci) rk 5) := by
  intro w0 wE p l e R s m args below meth c Q hc Cc K Rt hC hK hR Lo S H hI Hr locs ls hr hlo hz hl hw
  obtain ⟨hx, hb, hml, hown, hts, hkk, hret, hin, htab, hlk, hroom, hcel, hst, hb0⟩ := hc
  unfold o_call at hI
  split at hI
  next as S' es =>
    cases eb : Nat.ble (jWs S') 8 with
    | false => rw [eb] at hI; exact hI.elim
    | true =>
      rw [eb] at hI
      have hs8 : 2 * 0 + ((S'.map jV).map fun v => v.category).sum ≤ 8 := by rw [jWs_cat]; exact Nat.le_trans (Nat.le_of_eq (Nat.zero_add _)) (Nat.le_of_ble_eq_true eb)
      obtain ⟨hstk, hlas⟩ := jsp_stack es
      unfold rcV at hI
      split at hI
      next r0 as' =>
        obtain ⟨a, fs, rfl, ho, hI⟩ := hI
        have hstk : S.map jV = (as'.map jV).reverse ++ .ref a :: S'.map jV := by rw [hstk]; show (jV (jR (some a)) :: as'.map jV).reverse ++ _ = _; rw [List.reverse_cons, List.append_assoc]; rfl
        have hlas : (as'.map jV).length + 1 = n + 1 := by rw [List.length_map]; exact hlas
        obtain ⟨v, ⟨H1, g1, g2⟩, -⟩ := hrk _ hI
        obtain ⟨hle, hM⟩ := hC _ _ _ _ _ g1
        rw [hT] at hM
        obtain ⟨hbud, hbe⟩ := jbud hw hle (hK _ _ _ _ g2).1 hcel
        refine jrun5 (va_runF (C := C) (hkk.1.1 ci _ hcl).2 (As := as'.map jV) (rest := S'.map jV) ⟨hx, hb, hml, hown, hts⟩ hM (va_cwF n hts (show GoodIn lw_all (va_wsF M.1 idx C x y (ws_ y b L r)) from (lw_app (by intro w hw9; simp only [List.mem_cons, List.not_mem_nil, or_false] at hw9; rcases hw9 with rfl | rfl | rfl | rfl <;> assumption) (lw_meth hq6))) rfl rfl rfl (hkk.2.2.2.1 _ hq0) ⟨hmh.1, hmh.2, hlen⟩ ⟨Nat.le_trans hdep hroom.1, by have h1 := hroom.2; show 8 + (L + 11) + jlc d ≤ R.locals; have h2 := jlc_step hdep; omega⟩) ⟨jpre.blind, jrecv hr hkk hcl ho, jpre.of (as := jR (some a) :: as') hr hkk⟩ rfl (Nat.succ.inj hlas) hl.2.1 hstk hs8 hd hbud) hlo (fun Hr1 locs1 q1 q2 q3 => ?_)
        rw [hbe, ← jpush_map]
        exact (hK _ _ _ _ g2).2 Hr1 locs1 ls q1 q2 (Nat.le_trans hz q3) hl (Nat.le_trans hw hle)
      next => exact hI.elim
  next => exact hI.elim
theorem sd_callI (hT : T mi = (y, b, L, none, none, d)) (hL : L ≤ 20) (hdep : d + 1 ≤ M.2.2.2.2.2.2) (hlen : (parseMethodDescriptor y.desc).map (fun d => d.parameters.length) = some n) (hmh : y.cls ≠ "java/lang/invoke/MethodHandle" ∧ y.cls ≠ "java/lang/invoke/VarHandle") (hy1 : y.name = "<init>") (hq1 : Cond.methodLink M.1 idx y ∈ lw_all) (hq2 : Cond.instanceMethod y ∈ lw_all) (hq3 : Cond.initialized y.cls ∈ lw_all) (hq4 : Cond.code y b L none ∈ lw_all) (hd : decode M.2.1 pc = .ok (.invokespecial idx, 3)) : jsnd E T M pc (o_call mi (n + 1) rcI rkV 3) := by
  have hrk := rkV_l
  intro w0 wE p l e R s m args below meth c Q hc Cc K Rt hC hK hR Lo S H hI Hr locs ls hr hlo hz hl hw
  obtain ⟨hx, hb, hml, hown, hts, hkk, hret, hin, htab, hlk, hroom, hcel, hst, hb0⟩ := hc
  unfold o_call at hI
  split at hI
  next as S' es =>
    cases eb : Nat.ble (jWs S') 8 with
    | false => rw [eb] at hI; exact hI.elim
    | true =>
      rw [eb] at hI
      have hs8 : 2 * 0 + ((S'.map jV).map fun v => v.category).sum ≤ 8 := by rw [jWs_cat]; exact Nat.le_trans (Nat.le_of_eq (Nat.zero_add _)) (Nat.le_of_ble_eq_true eb)
      obtain ⟨hstk, hlas⟩ := jsp_stack es
      unfold rcI at hI
      split at hI
      next r0 as' =>
        obtain ⟨a, rfl, hI⟩ := hI
        have hstk : S.map jV = (as'.map jV).reverse ++ .ref a :: S'.map jV := by rw [hstk]; show (jV (jR (some a)) :: as'.map jV).reverse ++ _ = _; rw [List.reverse_cons, List.append_assoc]; rfl
        have hlas : (as'.map jV).length + 1 = n + 1 := by rw [List.length_map]; exact hlas
        obtain ⟨v, ⟨H1, g1, g2⟩, -⟩ := hrk _ hI
        obtain ⟨hle, hM⟩ := hC _ _ _ _ _ g1
        rw [hT] at hM
        obtain ⟨hbud, hbe⟩ := jbud hw hle (hK _ _ _ _ g2).1 hcel
        refine jrun3 (va_runI (As := as'.map jV) (rest := S'.map jV) ⟨hx, hb, hml, hown, hts⟩ hM (cwI n hts (lw_meth hq4) rfl rfl rfl (hts _ hq3) (hts _ hq1) (hts _ hq2) hy1 ⟨hmh.1, hmh.2, hlen⟩ ⟨Nat.le_trans hdep hroom.1, by have h1 := hroom.2; show 8 + (L + 11) + jlc d ≤ R.locals; have h2 := jlc_step hdep; omega⟩) ⟨jpre.blind, jpre.of (as := jR (some a) :: as') hr hkk⟩ rfl (Nat.succ.inj hlas) hl.2.1 hstk hs8 hd hbud) hlo (fun Hr1 locs1 q1 q2 q3 => ?_)
        rw [hbe, ← jpush_map]
        exact (hK _ _ _ _ g2).2 Hr1 locs1 ls q1 q2 (Nat.le_trans hz q3) hl (Nat.le_trans hw hle)
      next => exact hI.elim
  next => exact hI.elim
theorem sd_callIN (hT : T mi = (y, b, L, none, none, d)) (hL : L ≤ 20) (hdep : d + 1 ≤ M.2.2.2.2.2.2) (hlen : (parseMethodDescriptor y.desc).map (fun d => d.parameters.length) = some n) (hmh : y.cls ≠ "java/lang/invoke/MethodHandle" ∧ y.cls ≠ "java/lang/invoke/VarHandle") {host : String} (hy1 : y.name = "<init>") (hq1 : Cond.methodLinkNest M.1 idx y host ∈ jnw) (hq2 : Cond.instanceMethod y ∈ lw_all) (hq3 : Cond.initialized y.cls ∈ lw_all) (hq4 : Cond.code y b L none ∈ lw_all) (hd : decode M.2.1 pc = .ok (.invokespecial idx, 3)) : jsnd E T M pc (o_call mi (n + 1) rcI rkV 3) := by
  have hrk := rkV_l
  intro w0 wE p l e R s m args below meth c Q hc Cc K Rt hC hK hR Lo S H hI Hr locs ls hr hlo hz hl hw
  obtain ⟨hx, hb, hml, hown, hts, hkk, hret, hin, htab, hlk, hroom, hcel, hst, hb0⟩ := hc
  unfold o_call at hI
  split at hI
  next as S' es =>
    cases eb : Nat.ble (jWs S') 8 with
    | false => rw [eb] at hI; exact hI.elim
    | true =>
      rw [eb] at hI
      have hs8 : 2 * 0 + ((S'.map jV).map fun v => v.category).sum ≤ 8 := by rw [jWs_cat]; exact Nat.le_trans (Nat.le_of_eq (Nat.zero_add _)) (Nat.le_of_ble_eq_true eb)
      obtain ⟨hstk, hlas⟩ := jsp_stack es
      unfold rcI at hI
      split at hI
      next r0 as' =>
        obtain ⟨a, rfl, hI⟩ := hI
        have hstk : S.map jV = (as'.map jV).reverse ++ .ref a :: S'.map jV := by rw [hstk]; show (jV (jR (some a)) :: as'.map jV).reverse ++ _ = _; rw [List.reverse_cons, List.append_assoc]; rfl
        have hlas : (as'.map jV).length + 1 = n + 1 := by rw [List.length_map]; exact hlas
        obtain ⟨v, ⟨H1, g1, g2⟩, -⟩ := hrk _ hI
        obtain ⟨hle, hM⟩ := hC _ _ _ _ _ g1
        rw [hT] at hM
        obtain ⟨hbud, hbe⟩ := jbud hw hle (hK _ _ _ _ g2).1 hcel
        refine jrun3 (va_runIN (As := as'.map jV) (rest := S'.map jV) ⟨hx, hb, hml, hown, hts⟩ hM ⟨va_cnB n hts (lw_meth hq4) rfl rfl rfl (hkk.2.1 _ hq1) (hts _ hq3) ⟨hmh.1, hmh.2, hlen⟩ ⟨Nat.le_trans hdep hroom.1, by have h1 := hroom.2; show 8 + (L + 11) + jlc d ≤ R.locals; have h2 := jlc_step hdep; omega⟩, hy1, hts _ hq2⟩ ⟨jpre.blind, jpre.of (as := jR (some a) :: as') hr hkk⟩ rfl (Nat.succ.inj hlas) hl.2.1 hstk hs8 hd hbud) hlo (fun Hr1 locs1 q1 q2 q3 => ?_)
        rw [hbe, ← jpush_map]
        exact (hK _ _ _ _ g2).2 Hr1 locs1 ls q1 q2 (Nat.le_trans hz q3) hl (Nat.le_trans hw hle)
      next => exact hI.elim
  next => exact hI.elim
theorem sd_callVW {hh : List (Nat × Nat × Nat × Nat)} (hT : T mi = (y, b, L, r, some hh, d)) (hrk : jRkL rk) (hL : L ≤ 20) (hdep : d + 1 ≤ M.2.2.2.2.2.2) (hlen : (parseMethodDescriptor y.desc).map (fun d => d.parameters.length) = some n) {ci : Nat} {C : String} {U : u_T} {N : Nat} (hcl : jcl[ci]? = some (C, U, N)) (hmh : y.cls ≠ "java/lang/invoke/MethodHandle" ∧ y.cls ≠ "java/lang/invoke/VarHandle") (hC0 : y.cls = C) (hq1 : Cond.methodLink M.1 idx y ∈ lw_all) (hq2 : Cond.instanceMethod y ∈ lw_all) (hq3 : Cond.selects C y y ∈ lw_all) (hq4 : Cond.initialized C ∈ lw_all) (hq5 : Cond.codeWith y b L r hh ∈ lw_all) (hd : decode M.2.1 pc = .ok (.invokevirtual idx, 3)) : jsnd E T M pc (o_call mi (n + 1) (rcV ci) rk 3) := by
  intro w0 wE p l e R s m args below meth c Q hc Cc K Rt hC hK hR Lo S H hI Hr locs ls hr hlo hz hl hw
  obtain ⟨hx, hb, hml, hown, hts, hkk, hret, hin, htab, hlk, hroom, hcel, hst, hb0⟩ := hc
  unfold o_call at hI
  split at hI
  next as S' es =>
    cases eb : Nat.ble (jWs S') 8 with
    | false => rw [eb] at hI; exact hI.elim
    | true =>
      rw [eb] at hI
      have hs8 : 2 * 0 + ((S'.map jV).map fun v => v.category).sum ≤ 8 := by rw [jWs_cat]; exact Nat.le_trans (Nat.le_of_eq (Nat.zero_add _)) (Nat.le_of_ble_eq_true eb)
      obtain ⟨hstk, hlas⟩ := jsp_stack es
      unfold rcV at hI
      split at hI
      next r0 as' =>
        obtain ⟨a, fs, rfl, ho, hI⟩ := hI
        have hstk : S.map jV = (as'.map jV).reverse ++ .ref a :: S'.map jV := by rw [hstk]; show (jV (jR (some a)) :: as'.map jV).reverse ++ _ = _; rw [List.reverse_cons, List.append_assoc]; rfl
        have hlas : (as'.map jV).length + 1 = n + 1 := by rw [List.length_map]; exact hlas
        obtain ⟨v, ⟨H1, g1, g2⟩, -⟩ := hrk _ hI
        obtain ⟨hle, hM⟩ := hC _ _ _ _ _ g1
        rw [hT] at hM
        obtain ⟨hbud, hbe⟩ := jbud hw hle (hK _ _ _ _ g2).1 hcel
        refine jrun3 (vx_runVW (C := C) (As := as'.map jV) (rest := S'.map jV) ⟨hx, hb, hml, hown, hts⟩ hM (vx_cwVW n hts (lw_VW hq1 hq2 hq3 hq4 hq5) rfl rfl rfl ⟨hC0, hmh.1, hmh.2, hlen⟩ ⟨Nat.le_trans hdep hroom.1, by have h1 := hroom.2; show 8 + (L + 11) + jlc d ≤ R.locals; have h2 := jlc_step hdep; omega⟩) ⟨jpre.blind, jrecv hr hkk hcl ho, jpre.of (as := jR (some a) :: as') hr hkk⟩ rfl (Nat.succ.inj hlas) hl.2.1 hstk hs8 hd hbud) hlo (fun Hr1 locs1 q1 q2 q3 => ?_)
        rw [hbe, ← jpush_map]
        exact (hK _ _ _ _ g2).2 Hr1 locs1 ls q1 q2 (Nat.le_trans hz q3) hl (Nat.le_trans hw hle)
      next => exact hI.elim
  next => exact hI.elim
theorem sd_callVXO (hT : T mi = (y, b, L, r, none, d)) (hrk : jRkL rk) (hL : L ≤ 20) (hdep : d + 1 ≤ M.2.2.2.2.2.2) (hlen : (parseMethodDescriptor y.desc).map (fun d => d.parameters.length) = some n) {ci : Nat} {C : String} {U : u_T} {N : Nat} (hcl : jcl[ci]? = some (C, U, N)) (hC0 : y.cls = C) (hmh : y.cls ≠ "java/lang/invoke/MethodHandle" ∧ y.cls ≠ "java/lang/invoke/VarHandle") {cx : Nat} (hne : cx ≠ jlam) (hout : ∀ x ∈ tableOf M.2.2.2.2.2.1, covers x pc = false) (hq1 : Cond.methodLink M.1 idx y ∈ lw_all) (hq2 : Cond.instanceMethod y ∈ lw_all) (hq3 : Cond.selects C y y ∈ lw_all) (hq4 : Cond.initialized C ∈ lw_all) (hq5 : Cond.code y b L r ∈ lw_all) (hd : decode M.2.1 pc = .ok (.invokevirtual idx, 3)) : jsnd E T M pc (o_callX mi (n + 1) (rcV ci) rk 3 (xO cx)) := by
  intro w0 wE p l e R s m args below meth c Q hc Cc K Rt hC hK hR Lo S H hI Hr locs ls hr hlo hz hl hw
  obtain ⟨hx, hb, hml, hown, hts, hkk, hret, hin, htab, hlk, hroom, hcel, hst, hb0⟩ := hc
  unfold o_callX at hI
  split at hI
  next as S' es =>
    cases eb : Nat.ble (jWs S') 8 with
    | false => rw [eb] at hI; exact hI.elim
    | true =>
      rw [eb] at hI
      have hs8 : 2 * 0 + ((S'.map jV).map fun v => v.category).sum ≤ 8 := by rw [jWs_cat]; exact Nat.le_trans (Nat.le_of_eq (Nat.zero_add _)) (Nat.le_of_ble_eq_true eb)
      obtain ⟨hstk, hlas⟩ := jsp_stack es
      unfold rcV at hI
      split at hI
      next r0 as' =>
        obtain ⟨a, fs, rfl, ho, hI⟩ := hI
        have hstk : S.map jV = (as'.map jV).reverse ++ .ref a :: S'.map jV := by rw [hstk]; show (jV (jR (some a)) :: as'.map jV).reverse ++ _ = _; rw [List.reverse_cons, List.append_assoc]; rfl
        have hlas : (as'.map jV).length + 1 = n + 1 := by rw [List.length_map]; exact hlas
        obtain ⟨o, H1, g1, g2⟩ := hI
        obtain ⟨hle, hM⟩ := hC _ _ _ _ _ g1
        rw [hT] at hM
        rcases g2 with g2 | ⟨q, rfl, g2⟩
        · obtain ⟨v, ⟨e1, g3⟩, -⟩ := hrk _ g2
          subst e1
          obtain ⟨hbud, hbe⟩ := jbud hw hle (hK _ _ _ _ g3).1 hcel
          refine jrun3 (va_runV (C := C) (As := as'.map jV) (rest := S'.map jV) ⟨hx, hb, hml, hown, hts⟩ hM (cwV n hts (lw_V hq1 hq2 hq3 hq4 hq5) rfl rfl rfl ⟨hC0, hmh.1, hmh.2, hlen⟩ ⟨Nat.le_trans hdep hroom.1, by have h1 := hroom.2; show 8 + (L + 11) + jlc d ≤ R.locals; have h2 := jlc_step hdep; omega⟩) ⟨jpre.blind, jrecv hr hkk hcl ho, jpre.of (as := jR (some a) :: as') hr hkk⟩ rfl (Nat.succ.inj hlas) hl.2.1 hstk hs8 hd hbud) hlo (fun Hr1 locs1 q1 q2 q3 => ?_)
          rw [hbe, ← jpush_map]
          exact (hK _ _ _ _ g3).2 Hr1 locs1 ls q1 q2 (Nat.le_trans hz q3) hl (Nat.le_trans hw hle)
        · have hM := hM rfl
          obtain ⟨fs9, k1, k2⟩ := g2
          obtain ⟨hbud, hbe⟩ := jbud hw hle (hR _ _ k2).1 hcel
          refine jrunX (vx_runV (C := C) (As := as'.map jV) (rest := S'.map jV) ⟨hx, hb, hml, hown, hts⟩ hM (cwV n hts (lw_V hq1 hq2 hq3 hq4 hq5) rfl rfl rfl ⟨hC0, hmh.1, hmh.2, hlen⟩ ⟨Nat.le_trans hdep hroom.1, by have h1 := hroom.2; show 8 + (L + 11) + jlc d ≤ R.locals; have h2 := jlc_step hdep; omega⟩) ⟨jpre.blind, jrecv hr hkk hcl ho, jpre.of (as := jR (some a) :: as') hr hkk⟩ rfl (Nat.succ.inj hlas) hl.2.1 hstk hs8 hd hbud) hlo (fun Hr1 locs1 q1 q2 q3 => ?_)
          rw [hbe]
          exact (hR _ _ k2).2 Hr1 locs1 ls q1 q2 (Nat.le_trans hz q3) (Nat.le_trans hw hle) pc (S'.map jV) cx fs9 (fun x hx9 => hout x (by rw [← htab]; exact hx9)) k1 hne
      next => exact hI.elim
  next => exact hI.elim
theorem sd_callSXO (hT : T mi = (y, b, L, r, none, d)) (hrk : jRkL rk) (hL : L ≤ 20) (hdep : d + 1 ≤ M.2.2.2.2.2.2) (hlen : (parseMethodDescriptor y.desc).map (fun d => d.parameters.length) = some n) (hmh : y.cls ≠ "java/lang/invoke/MethodHandle" ∧ y.cls ≠ "java/lang/invoke/VarHandle") {cx : Nat} (hne : cx ≠ jlam) (hout : ∀ x ∈ tableOf M.2.2.2.2.2.1, covers x pc = false) (hq1 : Cond.methodLink M.1 idx y ∈ lw_all) (hq2 : Cond.static y ∈ lw_all) (hq3 : Cond.initialized y.cls ∈ lw_all) (hq4 : Cond.code y b L r ∈ lw_all) (hd : decode M.2.1 pc = .ok (.invokestatic idx, 3)) : jsnd E T M pc (o_callX mi n rcS rk 3 (xO cx)) := by
  intro w0 wE p l e R s m args below meth c Q hc Cc K Rt hC hK hR Lo S H hI Hr locs ls hr hlo hz hl hw
  obtain ⟨hx, hb, hml, hown, hts, hkk, hret, hin, htab, hlk, hroom, hcel, hst, hb0⟩ := hc
  unfold o_callX at hI
  split at hI
  next as S' es =>
    cases eb : Nat.ble (jWs S') 8 with
    | false => rw [eb] at hI; exact hI.elim
    | true =>
      rw [eb] at hI
      have hs8 : 2 * 0 + ((S'.map jV).map fun v => v.category).sum ≤ 8 := by rw [jWs_cat]; exact Nat.le_trans (Nat.le_of_eq (Nat.zero_add _)) (Nat.le_of_ble_eq_true eb)
      obtain ⟨hstk, hlas⟩ := jsp_stack es

      have hI : ∃ (o : JOut) (H1 : JHp), Cc mi as H o H1 ∧ _ := hI
      obtain ⟨o, H1, g1, g2⟩ := hI
      obtain ⟨hle, hM⟩ := hC _ _ _ _ _ g1
      rw [hT] at hM
      rcases g2 with g2 | ⟨q, rfl, g2⟩
      · obtain ⟨v, ⟨e1, g3⟩, -⟩ := hrk _ g2
        subst e1
        obtain ⟨hbud, hbe⟩ := jbud hw hle (hK _ _ _ _ g3).1 hcel
        refine jrun3 (va_runS (As := as.map jV) (rest := S'.map jV) ⟨hx, hb, hml, hown, hts⟩ hM (va_cwS n hts (lw_S hq1 hq2 hq3 hq4) rfl rfl rfl ⟨hmh.1, hmh.2, hlen⟩ ⟨Nat.le_trans hdep hroom.1, by have h1 := hroom.2; show 8 + (L + 11) + jlc d ≤ R.locals; have h2 := jlc_step hdep; omega⟩) ⟨jpre.blind, jpre.of hr hkk⟩ rfl (by rw [List.length_map]; exact hlas) hl.2.1 hstk hs8 hd hbud) hlo (fun Hr1 locs1 q1 q2 q3 => ?_)
        rw [hbe, ← jpush_map]
        exact (hK _ _ _ _ g3).2 Hr1 locs1 ls q1 q2 (Nat.le_trans hz q3) hl (Nat.le_trans hw hle)
      · have hM := hM rfl
        obtain ⟨fs9, k1, k2⟩ := g2
        obtain ⟨hbud, hbe⟩ := jbud hw hle (hR _ _ k2).1 hcel
        refine jrunX (vx_runS (As := as.map jV) (rest := S'.map jV) ⟨hx, hb, hml, hown, hts⟩ hM (va_cwS n hts (lw_S hq1 hq2 hq3 hq4) rfl rfl rfl ⟨hmh.1, hmh.2, hlen⟩ ⟨Nat.le_trans hdep hroom.1, by have h1 := hroom.2; show 8 + (L + 11) + jlc d ≤ R.locals; have h2 := jlc_step hdep; omega⟩) ⟨jpre.blind, jpre.of hr hkk⟩ rfl (by rw [List.length_map]; exact hlas) hl.2.1 hstk hs8 hd hbud) hlo (fun Hr1 locs1 q1 q2 q3 => ?_)
        rw [hbe]
        exact (hR _ _ k2).2 Hr1 locs1 ls q1 q2 (Nat.le_trans hz q3) (Nat.le_trans hw hle) pc (S'.map jV) cx fs9 (fun x hx9 => hout x (by rw [← htab]; exact hx9)) k1 hne
  next => exact hI.elim
theorem sd_callSNXO (hT : T mi = (y, b, L, r, none, d)) (hrk : jRkL rk) (hL : L ≤ 20) (hdep : d + 1 ≤ M.2.2.2.2.2.2) (hlen : (parseMethodDescriptor y.desc).map (fun d => d.parameters.length) = some n) (hmh : y.cls ≠ "java/lang/invoke/MethodHandle" ∧ y.cls ≠ "java/lang/invoke/VarHandle") {cx : Nat} (hne : cx ≠ jlam) (hout : ∀ x ∈ tableOf M.2.2.2.2.2.1, covers x pc = false) {host : String} (hq1 : Cond.methodLinkNest M.1 idx y host ∈ jnw) (hq2 : Cond.static y ∈ lw_all) (hq3 : Cond.initialized y.cls ∈ lw_all) (hq4 : Cond.code y b L r ∈ lw_all) (hd : decode M.2.1 pc = .ok (.invokestatic idx, 3)) : jsnd E T M pc (o_callX mi n rcS rk 3 (xO cx)) := by
  intro w0 wE p l e R s m args below meth c Q hc Cc K Rt hC hK hR Lo S H hI Hr locs ls hr hlo hz hl hw
  obtain ⟨hx, hb, hml, hown, hts, hkk, hret, hin, htab, hlk, hroom, hcel, hst, hb0⟩ := hc
  unfold o_callX at hI
  split at hI
  next as S' es =>
    cases eb : Nat.ble (jWs S') 8 with
    | false => rw [eb] at hI; exact hI.elim
    | true =>
      rw [eb] at hI
      have hs8 : 2 * 0 + ((S'.map jV).map fun v => v.category).sum ≤ 8 := by rw [jWs_cat]; exact Nat.le_trans (Nat.le_of_eq (Nat.zero_add _)) (Nat.le_of_ble_eq_true eb)
      obtain ⟨hstk, hlas⟩ := jsp_stack es

      have hI : ∃ (o : JOut) (H1 : JHp), Cc mi as H o H1 ∧ _ := hI
      obtain ⟨o, H1, g1, g2⟩ := hI
      obtain ⟨hle, hM⟩ := hC _ _ _ _ _ g1
      rw [hT] at hM
      rcases g2 with g2 | ⟨q, rfl, g2⟩
      · obtain ⟨v, ⟨e1, g3⟩, -⟩ := hrk _ g2
        subst e1
        obtain ⟨hbud, hbe⟩ := jbud hw hle (hK _ _ _ _ g3).1 hcel
        refine jrun3 (va_runSN (As := as.map jV) (rest := S'.map jV) ⟨hx, hb, hml, hown, hts⟩ hM ⟨va_cnB n hts (lw_meth hq4) rfl rfl rfl (hkk.2.1 _ hq1) (hts _ hq3) ⟨hmh.1, hmh.2, hlen⟩ ⟨Nat.le_trans hdep hroom.1, by have h1 := hroom.2; show 8 + (L + 11) + jlc d ≤ R.locals; have h2 := jlc_step hdep; omega⟩, hts _ hq2, trivial⟩ ⟨jpre.blind, jpre.of hr hkk⟩ rfl (by rw [List.length_map]; exact hlas) hl.2.1 hstk hs8 hd hbud) hlo (fun Hr1 locs1 q1 q2 q3 => ?_)
        rw [hbe, ← jpush_map]
        exact (hK _ _ _ _ g3).2 Hr1 locs1 ls q1 q2 (Nat.le_trans hz q3) hl (Nat.le_trans hw hle)
      · have hM := hM rfl
        obtain ⟨fs9, k1, k2⟩ := g2
        obtain ⟨hbud, hbe⟩ := jbud hw hle (hR _ _ k2).1 hcel
        refine jrunX (vx_runSN (As := as.map jV) (rest := S'.map jV) ⟨hx, hb, hml, hown, hts⟩ hM ⟨va_cnB n hts (lw_meth hq4) rfl rfl rfl (hkk.2.1 _ hq1) (hts _ hq3) ⟨hmh.1, hmh.2, hlen⟩ ⟨Nat.le_trans hdep hroom.1, by have h1 := hroom.2; show 8 + (L + 11) + jlc d ≤ R.locals; have h2 := jlc_step hdep; omega⟩, hts _ hq2, trivial⟩ ⟨jpre.blind, jpre.of hr hkk⟩ rfl (by rw [List.length_map]; exact hlas) hl.2.1 hstk hs8 hd hbud) hlo (fun Hr1 locs1 q1 q2 q3 => ?_)
        rw [hbe]
        exact (hR _ _ k2).2 Hr1 locs1 ls q1 q2 (Nat.le_trans hz q3) (Nat.le_trans hw hle) pc (S'.map jV) cx fs9 (fun x hx9 => hout x (by rw [← htab]; exact hx9)) k1 hne
  next => exact hI.elim
theorem sd_callVXH (hT : T mi = (y, b, L, r, none, d)) (hrk : jRkL rk) (hL : L ≤ 20) (hdep : d + 1 ≤ M.2.2.2.2.2.2) (hlen : (parseMethodDescriptor y.desc).map (fun d => d.parameters.length) = some n) {ci : Nat} {C : String} {U : u_T} {N : Nat} (hcl : jcl[ci]? = some (C, U, N)) (hC0 : y.cls = C) (hmh : y.cls ≠ "java/lang/invoke/MethodHandle" ∧ y.cls ≠ "java/lang/invoke/VarHandle") {cx hpc : Nat} {X : String} {UX : u_T} {NX : Nat} {nmx : String} (hclx : jcl[cx]? = some (X, UX, NX)) (pre : List ExceptionTableEntry) (xx : ExceptionTableEntry) (suf : List ExceptionTableEntry) (hsplit : tableOf M.2.2.2.2.2.1 = pre ++ xx :: suf) (hpass : ∀ z ∈ pre, covers z pc = false ∨ (z.catchType ≠ 0 ∧ ∃ nm : String, Cond.classLink M.1 z.catchType nm ∈ lw_all ∧ ∀ s, jkk E s → va_Nc X nm s)) (hcov : covers xx pc = true) (h0x : xx.catchType ≠ 0) (hhp : xx.handlerPc = hpc) (hqx : Cond.classLink M.1 xx.catchType nmx ∈ lw_all) (hcx : Cond.castable X nmx ∈ jnw) (hq1 : Cond.methodLink M.1 idx y ∈ lw_all) (hq2 : Cond.instanceMethod y ∈ lw_all) (hq3 : Cond.selects C y y ∈ lw_all) (hq4 : Cond.initialized C ∈ lw_all) (hq5 : Cond.code y b L r ∈ lw_all) (hd : decode M.2.1 pc = .ok (.invokevirtual idx, 3)) : jsnd E T M pc (o_callX mi (n + 1) (rcV ci) rk 3 (xH cx hpc)) := by
  intro w0 wE p l e R s m args below meth c Q hc Cc K Rt hC hK hR Lo S H hI Hr locs ls hr hlo hz hl hw
  obtain ⟨hx, hb, hml, hown, hts, hkk, hret, hin, htab, hlk, hroom, hcel, hst, hb0⟩ := hc
  unfold o_callX at hI
  split at hI
  next as S' es =>
    cases eb : Nat.ble (jWs S') 8 with
    | false => rw [eb] at hI; exact hI.elim
    | true =>
      rw [eb] at hI
      have hs8 : 2 * 0 + ((S'.map jV).map fun v => v.category).sum ≤ 8 := by rw [jWs_cat]; exact Nat.le_trans (Nat.le_of_eq (Nat.zero_add _)) (Nat.le_of_ble_eq_true eb)
      obtain ⟨hstk, hlas⟩ := jsp_stack es
      unfold rcV at hI
      split at hI
      next r0 as' =>
        obtain ⟨a, fs, rfl, ho, hI⟩ := hI
        have hstk : S.map jV = (as'.map jV).reverse ++ .ref a :: S'.map jV := by rw [hstk]; show (jV (jR (some a)) :: as'.map jV).reverse ++ _ = _; rw [List.reverse_cons, List.append_assoc]; rfl
        have hlas : (as'.map jV).length + 1 = n + 1 := by rw [List.length_map]; exact hlas
        obtain ⟨o, H1, g1, g2⟩ := hI
        obtain ⟨hle, hM⟩ := hC _ _ _ _ _ g1
        rw [hT] at hM
        rcases g2 with g2 | ⟨q, rfl, g2⟩
        · obtain ⟨v, ⟨e1, g3⟩, -⟩ := hrk _ g2
          subst e1
          obtain ⟨hbud, hbe⟩ := jbud hw hle (hK _ _ _ _ g3).1 hcel
          refine jrun3 (va_runV (C := C) (As := as'.map jV) (rest := S'.map jV) ⟨hx, hb, hml, hown, hts⟩ hM (cwV n hts (lw_V hq1 hq2 hq3 hq4 hq5) rfl rfl rfl ⟨hC0, hmh.1, hmh.2, hlen⟩ ⟨Nat.le_trans hdep hroom.1, by have h1 := hroom.2; show 8 + (L + 11) + jlc d ≤ R.locals; have h2 := jlc_step hdep; omega⟩) ⟨jpre.blind, jrecv hr hkk hcl ho, jpre.of (as := jR (some a) :: as') hr hkk⟩ rfl (Nat.succ.inj hlas) hl.2.1 hstk hs8 hd hbud) hlo (fun Hr1 locs1 q1 q2 q3 => ?_)
          rw [hbe, ← jpush_map]
          exact (hK _ _ _ _ g3).2 Hr1 locs1 ls q1 q2 (Nat.le_trans hz q3) hl (Nat.le_trans hw hle)
        · have hM := hM rfl
          obtain ⟨fs9, k1, k2⟩ := g2
          obtain ⟨hbud, hbe⟩ := jbud hw hle (hK _ _ _ _ k2).1 hcel
          refine jrunX (vx_runV (C := C) (As := as'.map jV) (rest := S'.map jV) ⟨hx, hb, hml, hown, hts⟩ hM (cwV n hts (lw_V hq1 hq2 hq3 hq4 hq5) rfl rfl rfl ⟨hC0, hmh.1, hmh.2, hlen⟩ ⟨Nat.le_trans hdep hroom.1, by have h1 := hroom.2; show 8 + (L + 11) + jlc d ≤ R.locals; have h2 := jlc_step hdep; omega⟩) ⟨jpre.blind, jrecv hr hkk hcl ho, jpre.of (as := jR (some a) :: as') hr hkk⟩ rfl (Nat.succ.inj hlas) hl.2.1 hstk hs8 hd hbud) hlo (fun Hr1 locs1 q1 q2 q3 => ?_)
          rw [hbe]
          obtain ⟨-, cell, f1, f2, f3, -⟩ := ((q1.tr k1).2).ob hclx
          have hfx := (hkk.1.1 cx _ hclx).2.1
          rw [← f2] at hfx
          refine vx_catch hown pre xx suf (by rw [htab]; exact hsplit) (fun z hz9 => (hpass z hz9).imp id (fun q => ⟨q.1, by obtain ⟨nm, h1, h2⟩ := q.2; exact ⟨nm, hts _ h1, h2 s hkk⟩⟩)) hcov h0x (hts _ hqx) (va_Nw.use rfl (hkk.2.1 _ hcx)) f1 f3 hfx ?_
          rw [hhp]
          exact (hK _ _ _ _ k2).2 Hr1 locs1 ls q1 q2 (Nat.le_trans hz q3) hl (Nat.le_trans hw hle)
      next => exact hI.elim
  next => exact hI.elim
theorem sd_callSXH (hT : T mi = (y, b, L, r, none, d)) (hrk : jRkL rk) (hL : L ≤ 20) (hdep : d + 1 ≤ M.2.2.2.2.2.2) (hlen : (parseMethodDescriptor y.desc).map (fun d => d.parameters.length) = some n) (hmh : y.cls ≠ "java/lang/invoke/MethodHandle" ∧ y.cls ≠ "java/lang/invoke/VarHandle") {cx hpc : Nat} {X : String} {UX : u_T} {NX : Nat} {nmx : String} (hclx : jcl[cx]? = some (X, UX, NX)) (pre : List ExceptionTableEntry) (xx : ExceptionTableEntry) (suf : List ExceptionTableEntry) (hsplit : tableOf M.2.2.2.2.2.1 = pre ++ xx :: suf) (hpass : ∀ z ∈ pre, covers z pc = false ∨ (z.catchType ≠ 0 ∧ ∃ nm : String, Cond.classLink M.1 z.catchType nm ∈ lw_all ∧ ∀ s, jkk E s → va_Nc X nm s)) (hcov : covers xx pc = true) (h0x : xx.catchType ≠ 0) (hhp : xx.handlerPc = hpc) (hqx : Cond.classLink M.1 xx.catchType nmx ∈ lw_all) (hcx : Cond.castable X nmx ∈ jnw) (hq1 : Cond.methodLink M.1 idx y ∈ lw_all) (hq2 : Cond.static y ∈ lw_all) (hq3 : Cond.initialized y.cls ∈ lw_all) (hq4 : Cond.code y b L r ∈ lw_all) (hd : decode M.2.1 pc = .ok (.invokestatic idx, 3)) : jsnd E T M pc (o_callX mi n rcS rk 3 (xH cx hpc)) := by
  intro w0 wE p l e R s m args below meth c Q hc Cc K Rt hC hK hR Lo S H hI Hr locs ls hr hlo hz hl hw
  obtain ⟨hx, hb, hml, hown, hts, hkk, hret, hin, htab, hlk, hroom, hcel, hst, hb0⟩ := hc
  unfold o_callX at hI
  split at hI
  next as S' es =>
    cases eb : Nat.ble (jWs S') 8 with
    | false => rw [eb] at hI; exact hI.elim
    | true =>
      rw [eb] at hI
      have hs8 : 2 * 0 + ((S'.map jV).map fun v => v.category).sum ≤ 8 := by rw [jWs_cat]; exact Nat.le_trans (Nat.le_of_eq (Nat.zero_add _)) (Nat.le_of_ble_eq_true eb)
      obtain ⟨hstk, hlas⟩ := jsp_stack es

      have hI : ∃ (o : JOut) (H1 : JHp), Cc mi as H o H1 ∧ _ := hI
      obtain ⟨o, H1, g1, g2⟩ := hI
      obtain ⟨hle, hM⟩ := hC _ _ _ _ _ g1
      rw [hT] at hM
      rcases g2 with g2 | ⟨q, rfl, g2⟩
      · obtain ⟨v, ⟨e1, g3⟩, -⟩ := hrk _ g2
        subst e1
        obtain ⟨hbud, hbe⟩ := jbud hw hle (hK _ _ _ _ g3).1 hcel
        refine jrun3 (va_runS (As := as.map jV) (rest := S'.map jV) ⟨hx, hb, hml, hown, hts⟩ hM (va_cwS n hts (lw_S hq1 hq2 hq3 hq4) rfl rfl rfl ⟨hmh.1, hmh.2, hlen⟩ ⟨Nat.le_trans hdep hroom.1, by have h1 := hroom.2; show 8 + (L + 11) + jlc d ≤ R.locals; have h2 := jlc_step hdep; omega⟩) ⟨jpre.blind, jpre.of hr hkk⟩ rfl (by rw [List.length_map]; exact hlas) hl.2.1 hstk hs8 hd hbud) hlo (fun Hr1 locs1 q1 q2 q3 => ?_)
        rw [hbe, ← jpush_map]
        exact (hK _ _ _ _ g3).2 Hr1 locs1 ls q1 q2 (Nat.le_trans hz q3) hl (Nat.le_trans hw hle)
      · have hM := hM rfl
        obtain ⟨fs9, k1, k2⟩ := g2
        obtain ⟨hbud, hbe⟩ := jbud hw hle (hK _ _ _ _ k2).1 hcel
        refine jrunX (vx_runS (As := as.map jV) (rest := S'.map jV) ⟨hx, hb, hml, hown, hts⟩ hM (va_cwS n hts (lw_S hq1 hq2 hq3 hq4) rfl rfl rfl ⟨hmh.1, hmh.2, hlen⟩ ⟨Nat.le_trans hdep hroom.1, by have h1 := hroom.2; show 8 + (L + 11) + jlc d ≤ R.locals; have h2 := jlc_step hdep; omega⟩) ⟨jpre.blind, jpre.of hr hkk⟩ rfl (by rw [List.length_map]; exact hlas) hl.2.1 hstk hs8 hd hbud) hlo (fun Hr1 locs1 q1 q2 q3 => ?_)
        rw [hbe]
        obtain ⟨-, cell, f1, f2, f3, -⟩ := ((q1.tr k1).2).ob hclx
        have hfx := (hkk.1.1 cx _ hclx).2.1
        rw [← f2] at hfx
        refine vx_catch hown pre xx suf (by rw [htab]; exact hsplit) (fun z hz9 => (hpass z hz9).imp id (fun q => ⟨q.1, by obtain ⟨nm, h1, h2⟩ := q.2; exact ⟨nm, hts _ h1, h2 s hkk⟩⟩)) hcov h0x (hts _ hqx) (va_Nw.use rfl (hkk.2.1 _ hcx)) f1 f3 hfx ?_
        rw [hhp]
        exact (hK _ _ _ _ k2).2 Hr1 locs1 ls q1 q2 (Nat.le_trans hz q3) hl (Nat.le_trans hw hle)
  next => exact hI.elim
theorem sd_callSNXH (hT : T mi = (y, b, L, r, none, d)) (hrk : jRkL rk) (hL : L ≤ 20) (hdep : d + 1 ≤ M.2.2.2.2.2.2) (hlen : (parseMethodDescriptor y.desc).map (fun d => d.parameters.length) = some n) (hmh : y.cls ≠ "java/lang/invoke/MethodHandle" ∧ y.cls ≠ "java/lang/invoke/VarHandle") {cx hpc : Nat} {X : String} {UX : u_T} {NX : Nat} {nmx : String} (hclx : jcl[cx]? = some (X, UX, NX)) (pre : List ExceptionTableEntry) (xx : ExceptionTableEntry) (suf : List ExceptionTableEntry) (hsplit : tableOf M.2.2.2.2.2.1 = pre ++ xx :: suf) (hpass : ∀ z ∈ pre, covers z pc = false ∨ (z.catchType ≠ 0 ∧ ∃ nm : String, Cond.classLink M.1 z.catchType nm ∈ lw_all ∧ ∀ s, jkk E s → va_Nc X nm s)) (hcov : covers xx pc = true) (h0x : xx.catchType ≠ 0) (hhp : xx.handlerPc = hpc) (hqx : Cond.classLink M.1 xx.catchType nmx ∈ lw_all) (hcx : Cond.castable X nmx ∈ jnw) {host : String} (hq1 : Cond.methodLinkNest M.1 idx y host ∈ jnw) (hq2 : Cond.static y ∈ lw_all) (hq3 : Cond.initialized y.cls ∈ lw_all) (hq4 : Cond.code y b L r ∈ lw_all) (hd : decode M.2.1 pc = .ok (.invokestatic idx, 3)) : jsnd E T M pc (o_callX mi n rcS rk 3 (xH cx hpc)) := by
  intro w0 wE p l e R s m args below meth c Q hc Cc K Rt hC hK hR Lo S H hI Hr locs ls hr hlo hz hl hw
  obtain ⟨hx, hb, hml, hown, hts, hkk, hret, hin, htab, hlk, hroom, hcel, hst, hb0⟩ := hc
  unfold o_callX at hI
  split at hI
  next as S' es =>
    cases eb : Nat.ble (jWs S') 8 with
    | false => rw [eb] at hI; exact hI.elim
    | true =>
      rw [eb] at hI
      have hs8 : 2 * 0 + ((S'.map jV).map fun v => v.category).sum ≤ 8 := by rw [jWs_cat]; exact Nat.le_trans (Nat.le_of_eq (Nat.zero_add _)) (Nat.le_of_ble_eq_true eb)
      obtain ⟨hstk, hlas⟩ := jsp_stack es

      have hI : ∃ (o : JOut) (H1 : JHp), Cc mi as H o H1 ∧ _ := hI
      obtain ⟨o, H1, g1, g2⟩ := hI
      obtain ⟨hle, hM⟩ := hC _ _ _ _ _ g1
      rw [hT] at hM
      rcases g2 with g2 | ⟨q, rfl, g2⟩
      · obtain ⟨v, ⟨e1, g3⟩, -⟩ := hrk _ g2
        subst e1
        obtain ⟨hbud, hbe⟩ := jbud hw hle (hK _ _ _ _ g3).1 hcel
        refine jrun3 (va_runSN (As := as.map jV) (rest := S'.map jV) ⟨hx, hb, hml, hown, hts⟩ hM ⟨va_cnB n hts (lw_meth hq4) rfl rfl rfl (hkk.2.1 _ hq1) (hts _ hq3) ⟨hmh.1, hmh.2, hlen⟩ ⟨Nat.le_trans hdep hroom.1, by have h1 := hroom.2; show 8 + (L + 11) + jlc d ≤ R.locals; have h2 := jlc_step hdep; omega⟩, hts _ hq2, trivial⟩ ⟨jpre.blind, jpre.of hr hkk⟩ rfl (by rw [List.length_map]; exact hlas) hl.2.1 hstk hs8 hd hbud) hlo (fun Hr1 locs1 q1 q2 q3 => ?_)
        rw [hbe, ← jpush_map]
        exact (hK _ _ _ _ g3).2 Hr1 locs1 ls q1 q2 (Nat.le_trans hz q3) hl (Nat.le_trans hw hle)
      · have hM := hM rfl
        obtain ⟨fs9, k1, k2⟩ := g2
        obtain ⟨hbud, hbe⟩ := jbud hw hle (hK _ _ _ _ k2).1 hcel
        refine jrunX (vx_runSN (As := as.map jV) (rest := S'.map jV) ⟨hx, hb, hml, hown, hts⟩ hM ⟨va_cnB n hts (lw_meth hq4) rfl rfl rfl (hkk.2.1 _ hq1) (hts _ hq3) ⟨hmh.1, hmh.2, hlen⟩ ⟨Nat.le_trans hdep hroom.1, by have h1 := hroom.2; show 8 + (L + 11) + jlc d ≤ R.locals; have h2 := jlc_step hdep; omega⟩, hts _ hq2, trivial⟩ ⟨jpre.blind, jpre.of hr hkk⟩ rfl (by rw [List.length_map]; exact hlas) hl.2.1 hstk hs8 hd hbud) hlo (fun Hr1 locs1 q1 q2 q3 => ?_)
        rw [hbe]
        obtain ⟨-, cell, f1, f2, f3, -⟩ := ((q1.tr k1).2).ob hclx
        have hfx := (hkk.1.1 cx _ hclx).2.1
        rw [← f2] at hfx
        refine vx_catch hown pre xx suf (by rw [htab]; exact hsplit) (fun z hz9 => (hpass z hz9).imp id (fun q => ⟨q.1, by obtain ⟨nm, h1, h2⟩ := q.2; exact ⟨nm, hts _ h1, h2 s hkk⟩⟩)) hcov h0x (hts _ hqx) (va_Nw.use rfl (hkk.2.1 _ hcx)) f1 f3 hfx ?_
        rw [hhp]
        exact (hK _ _ _ _ k2).2 Hr1 locs1 ls q1 q2 (Nat.le_trans hz q3) hl (Nat.le_trans hw hle)
  next => exact hI.elim
end SDC
section SDCP
variable {E : JE} {T : Nat → JI} {M : JM} {pc : Nat}
theorem sd_copyi {idx : Nat} (hq : Cond.methodLink M.1 idx arraycopyName ∈ lw_all) (hq2 : Cond.native arraycopyName ∈ lw_all) (hq3 : Cond.static arraycopyName ∈ lw_all) (hq4 : Cond.initialized "java/lang/System" ∈ lw_all) (hdep : 1 ≤ M.2.2.2.2.2.2) (hd : decode M.2.1 pc = .ok (.invokestatic idx, 3)) : jsnd E T M pc (o_copyi 2) := by
  intro w0 wE p l e R s m args below meth c Q hc Cc K Rt hC hK hR Lo S H hI Hr locs ls hr hlo hz hl hw
  obtain ⟨hx, hb, hml, hown, hts, hkk, hret, hin, htab, hlk, hroom, hcel, hst, hb0⟩ := hc
  unfold o_copyi at hI
  split at hI
  next z j rr2 i rr1 S' =>
    cases eb : Nat.ble (jWs S') 8 with
    | false => rw [eb] at hI; exact hI.elim
    | true =>
      rw [eb] at hI
      have hs8 := Nat.le_of_ble_eq_true eb
      obtain ⟨a0, a, n1, n2, f, g, sp, dp, n, rfl, rfl, h3, h4, rfl, rfl, rfl, h8, h9, h10, h11, h12, h13⟩ := hI
      have hb9 := (hr.tr h4).1
      obtain ⟨cs, hc0, ⟨ha0, k0, hk0, cm0, hkk0⟩, hu0, hs0, hsl0⟩ := hr.rdA hkk h3 (k := 2) rfl
      have hc1 : Hr[a]? = some (vp_cell (E.2.1 2) (aI n2 g)) := (hr.tr h4).2
      intro T9 hT9 X
      obtain ⟨-, k1, hk1, cm1, hkk1⟩ := (hkk.1.2 2 _ rfl).1 n2 (fun j => .int (g j))
      have nn : ∀ z : Nat, z < 2 ^ 31 → (nI z).toInt = (z : Int) := fun z hz => nI_toInt hz
      obtain ⟨vm', X', step⟩ := X.arraycopy hx hown (hts _ hq) (hts _ hq2) (hts _ hq3) (hts _ hq4) (src := a0) (dst := a) (cs := cs) (cd := vp_cell (E.2.1 2) (aI n2 g)) (srcPos := nI sp) (destPos := nI dp) (n := nI n) (by rw [hT9]; exact hc0) (by rw [hT9]; exact hc1)
        (fun k9 h => ha0 k9 h) (fun _ h => by cases h) (fun h => hu0 h) (fun h => by cases h) hk0 hk1 hkk0 hkk1 (by simp [refKind]) (nI_pos (by omega)) (nI_pos (by omega)) (nI_pos (by omega))
        (by rw [nn sp (by omega), nn n (by omega)]; rw [hsl0]; show ¬ _ > ((arrV 0 n1 (fun j => .int (f j))).slots.size : Int); rw [arrV_size]; omega)
        (by rw [nn dp (by omega), nn n (by omega)]; show ¬ _ > ((arrV (E.2.1 2) n2 (fun j => .int (g j))).slots.size : Int); rw [arrV_size]; omega)
        (fun vm₁ _ i hi => by
      have hi : i < n := by rw [nI_clamp (by omega)] at hi; exact hi
      have e : cs.slots.getD ((nI sp).toNatClampNeg + i) .null = .int (f (sp + i)) := by
        rw [hsl0]
        show (arrV 0 n1 (fun j => .int (f j))).slots.getD _ _ = _
        rw [nI_clamp (by omega), Array.getD_eq_getD_getElem?, arrV_read _ _ (by omega)]
        rfl
      refine ⟨?_, ?_⟩
      · rw [e]
        exact (jbyte_fit (h12 i hi)).2
      · rw [e]
        exact trivial)
        (g := F0 m pc ls (.int (nI n) :: .int (nI dp) :: .ref a :: .int (nI sp) :: .ref a0 :: S'.map jV)) rfl (by rw [hml]; exact hl.2.1) (rest := S'.map jV) rfl (by rw [hb]; exact hd) (Nat.le_trans hdep hroom.1) (by
          show 2 * 0 + ((S'.map jV).map fun v => v.category).sum + _ ≤ R.locals
          rw [jWs_cat]
          have h1 := hroom.2
          have h2 := jlc_one hdep
          have h3 : nativeFrameWords "java/lang/System" "arraycopy" 5 + 11 ≤ 30 := by decide
          omega)
      have e1 : copied cs (vp_cell (E.2.1 2) (aI n2 g)) (nI sp) (nI dp) (nI n) = vp_cell (E.2.1 2) (aI n2 (va_cpy f g sp dp n)) := by
        have h0 := va_copied (fun z => .int z) 0 (E.2.1 2) (dp := dp) (n1 := n2) f g h8
        show (arrV (E.2.1 2) n2 (fun j => .int (g j))).storeRun (nI dp).toNatClampNeg (cs.stretch (nI sp).toNatClampNeg (nI n).toNatClampNeg) = _
        have e2 : cs.stretch (nI sp).toNatClampNeg (nI n).toNatClampNeg = (arrV 0 n1 (fun j => .int (f j))).stretch (nI sp).toNatClampNeg (nI n).toNatClampNeg := by unfold Cell.stretch; rw [hsl0]; rfl
        rw [e2]
        rw [nI_clamp (n := sp) (by omega), nI_clamp (n := dp) (by omega), nI_clamp (n := n) (by omega)]
        exact h0
      rw [e1] at X' step
      have hlt : a < Hr.size := (Array.getElem?_eq_some_iff.mp hc1).1
      have hheap : ((T9.setVm vm').setCell a (vp_cell (E.2.1 2) (aI n2 (va_cpy f g sp dp n)))).heap = Hr.setIfInBounds a (vp_cell (E.2.1 2) (aI n2 (va_cpy f g sp dp n))) := by rw [← hT9]; rfl
      obtain ⟨t, a1, b1⟩ := (hK _ _ _ _ h13).2 (Hr.setIfInBounds a (vp_cell (E.2.1 2) (aI n2 (va_cpy f g sp dp n)))) _ ls (hr.up h4 (by simp) (fun q hq => by simp [Array.getElem?_setIfInBounds, Ne.symm hq]) (show (Hr.setIfInBounds a _)[a]? = some _ by simp [Array.getElem?_setIfInBounds, hlt])) (fun q hq => by
          rcases List.mem_append.mp hq with h | h
          · exact hlo q h
          · obtain ⟨z, -, hz⟩ := List.mem_map.mp h
            rw [← hz]
            exact hb9) (by simp; exact hz) hl hw _ hheap X'
      exact ⟨t, step t a1, b1⟩
  next => exact hI.elim
theorem sd_copyl {idx : Nat} (hq : Cond.methodLink M.1 idx arraycopyName ∈ lw_all) (hq2 : Cond.native arraycopyName ∈ lw_all) (hq3 : Cond.static arraycopyName ∈ lw_all) (hq4 : Cond.initialized "java/lang/System" ∈ lw_all) (hdep : 1 ≤ M.2.2.2.2.2.2) (hd : decode M.2.1 pc = .ok (.invokestatic idx, 3)) : jsnd E T M pc (o_copyl 1) := by
  intro w0 wE p l e R s m args below meth c Q hc Cc K Rt hC hK hR Lo S H hI Hr locs ls hr hlo hz hl hw
  obtain ⟨hx, hb, hml, hown, hts, hkk, hret, hin, htab, hlk, hroom, hcel, hst, hb0⟩ := hc
  unfold o_copyl at hI
  split at hI
  next z j rr2 i rr1 S' =>
    cases eb : Nat.ble (jWs S') 8 with
    | false => rw [eb] at hI; exact hI.elim
    | true =>
      rw [eb] at hI
      have hs8 := Nat.le_of_ble_eq_true eb
      obtain ⟨a0, a, n1, n2, f, g, sp, dp, n, rfl, rfl, h3, h4, rfl, rfl, rfl, h8, h9, h10, h11, h12, h13⟩ := hI
      have hb9 := (hr.tr h4).1
      obtain ⟨cs, hc0, ⟨ha0, k0, hk0, cm0, hkk0⟩, hu0, hs0, hsl0⟩ := hr.rdA hkk h3 (k := 1) rfl
      have hc1 : Hr[a]? = some (vp_cell (E.2.1 1) (aL n2 g)) := (hr.tr h4).2
      intro T9 hT9 X
      obtain ⟨-, k1, hk1, cm1, hkk1⟩ := (hkk.1.2 1 _ rfl).1 n2 (fun j => .long (g j))
      have nn : ∀ z : Nat, z < 2 ^ 31 → (nI z).toInt = (z : Int) := fun z hz => nI_toInt hz
      obtain ⟨vm', X', step⟩ := X.arraycopy hx hown (hts _ hq) (hts _ hq2) (hts _ hq3) (hts _ hq4) (src := a0) (dst := a) (cs := cs) (cd := vp_cell (E.2.1 1) (aL n2 g)) (srcPos := nI sp) (destPos := nI dp) (n := nI n) (by rw [hT9]; exact hc0) (by rw [hT9]; exact hc1)
        (fun k9 h => ha0 k9 h) (fun _ h => by cases h) (fun h => hu0 h) (fun h => by cases h) hk0 hk1 hkk0 hkk1 (by simp [refKind]) (nI_pos (by omega)) (nI_pos (by omega)) (nI_pos (by omega))
        (by rw [nn sp (by omega), nn n (by omega)]; rw [hsl0]; show ¬ _ > ((arrV 0 n1 (fun j => .long (f j))).slots.size : Int); rw [arrV_size]; omega)
        (by rw [nn dp (by omega), nn n (by omega)]; show ¬ _ > ((arrV (E.2.1 1) n2 (fun j => .long (g j))).slots.size : Int); rw [arrV_size]; omega)
        (fun vm₁ _ i hi => by
      have hi : i < n := by rw [nI_clamp (by omega)] at hi; exact hi
      have e : cs.slots.getD ((nI sp).toNatClampNeg + i) .null = .long (f (sp + i)) := by
        rw [hsl0]
        show (arrV 0 n1 (fun j => .long (f j))).slots.getD _ _ = _
        rw [nI_clamp (by omega), Array.getD_eq_getD_getElem?, arrV_read _ _ (by omega)]
        rfl
      refine ⟨?_, ?_⟩
      · rw [e]
        rfl
      · rw [e]
        exact trivial)
        (g := F0 m pc ls (.int (nI n) :: .int (nI dp) :: .ref a :: .int (nI sp) :: .ref a0 :: S'.map jV)) rfl (by rw [hml]; exact hl.2.1) (rest := S'.map jV) rfl (by rw [hb]; exact hd) (Nat.le_trans hdep hroom.1) (by
          show 2 * 0 + ((S'.map jV).map fun v => v.category).sum + _ ≤ R.locals
          rw [jWs_cat]
          have h1 := hroom.2
          have h2 := jlc_one hdep
          have h3 : nativeFrameWords "java/lang/System" "arraycopy" 5 + 11 ≤ 30 := by decide
          omega)
      have e1 : copied cs (vp_cell (E.2.1 1) (aL n2 g)) (nI sp) (nI dp) (nI n) = vp_cell (E.2.1 1) (aL n2 (va_cpy f g sp dp n)) := by
        have h0 := va_copied (fun z => .long z) 0 (E.2.1 1) (dp := dp) (n1 := n2) f g h8
        show (arrV (E.2.1 1) n2 (fun j => .long (g j))).storeRun (nI dp).toNatClampNeg (cs.stretch (nI sp).toNatClampNeg (nI n).toNatClampNeg) = _
        have e2 : cs.stretch (nI sp).toNatClampNeg (nI n).toNatClampNeg = (arrV 0 n1 (fun j => .long (f j))).stretch (nI sp).toNatClampNeg (nI n).toNatClampNeg := by unfold Cell.stretch; rw [hsl0]; rfl
        rw [e2]
        rw [nI_clamp (n := sp) (by omega), nI_clamp (n := dp) (by omega), nI_clamp (n := n) (by omega)]
        exact h0
      rw [e1] at X' step
      have hlt : a < Hr.size := (Array.getElem?_eq_some_iff.mp hc1).1
      have hheap : ((T9.setVm vm').setCell a (vp_cell (E.2.1 1) (aL n2 (va_cpy f g sp dp n)))).heap = Hr.setIfInBounds a (vp_cell (E.2.1 1) (aL n2 (va_cpy f g sp dp n))) := by rw [← hT9]; rfl
      obtain ⟨t, a1, b1⟩ := (hK _ _ _ _ h13).2 (Hr.setIfInBounds a (vp_cell (E.2.1 1) (aL n2 (va_cpy f g sp dp n)))) _ ls (hr.up h4 (by simp) (fun q hq => by simp [Array.getElem?_setIfInBounds, Ne.symm hq]) (show (Hr.setIfInBounds a _)[a]? = some _ by simp [Array.getElem?_setIfInBounds, hlt])) (fun q hq => by
          rcases List.mem_append.mp hq with h | h
          · exact hlo q h
          · obtain ⟨z, -, hz⟩ := List.mem_map.mp h
            rw [← hz]
            exact hb9) (by simp; exact hz) hl hw _ hheap X'
      exact ⟨t, step t a1, b1⟩
  next => exact hI.elim
theorem sd_copyr {idx : Nat} (hq : Cond.methodLink M.1 idx arraycopyName ∈ lw_all) (hq2 : Cond.native arraycopyName ∈ lw_all) (hq3 : Cond.static arraycopyName ∈ lw_all) (hq4 : Cond.initialized "java/lang/System" ∈ lw_all) (hdep : 1 ≤ M.2.2.2.2.2.2) (hd : decode M.2.1 pc = .ok (.invokestatic idx, 3)) : jsnd E T M pc (o_copyr 3) := by
  intro w0 wE p l e R s m args below meth c Q hc Cc K Rt hC hK hR Lo S H hI Hr locs ls hr hlo hz hl hw
  obtain ⟨hx, hb, hml, hown, hts, hkk, hret, hin, htab, hlk, hroom, hcel, hst, hb0⟩ := hc
  unfold o_copyr at hI
  split at hI
  next z j rr2 i rr1 S' =>
    cases eb : Nat.ble (jWs S') 8 with
    | false => rw [eb] at hI; exact hI.elim
    | true =>
      rw [eb] at hI
      have hs8 := Nat.le_of_ble_eq_true eb
      obtain ⟨a0, a, n1, n2, f, g, sp, dp, n, rfl, rfl, h3, h4, rfl, rfl, rfl, h8, h9, h10, h11, h12, h13⟩ := hI
      have hb9 := (hr.tr h4).1
      obtain ⟨cs, hc0, ⟨ha0, k0, hk0, cm0, hkk0⟩, hu0, hs0, hsl0⟩ := hr.rdA hkk h3 (k := 3) rfl
      have hc1 : Hr[a]? = some (vp_cell (E.2.1 3) (aR n2 g)) := (hr.tr h4).2
      intro T9 hT9 X
      obtain ⟨-, k1, hk1, cm1, hkk1⟩ := (hkk.1.2 3 _ rfl).1 n2 (fun j => va_rf (g j))
      have nn : ∀ z : Nat, z < 2 ^ 31 → (nI z).toInt = (z : Int) := fun z hz => nI_toInt hz
      obtain ⟨vm', X', step⟩ := X.arraycopy hx hown (hts _ hq) (hts _ hq2) (hts _ hq3) (hts _ hq4) (src := a0) (dst := a) (cs := cs) (cd := vp_cell (E.2.1 3) (aR n2 g)) (srcPos := nI sp) (destPos := nI dp) (n := nI n) (by rw [hT9]; exact hc0) (by rw [hT9]; exact hc1)
        (fun k9 h => ha0 k9 h) (fun _ h => by cases h) (fun h => hu0 h) (fun h => by cases h) hk0 hk1 hkk0 hkk1 rfl (nI_pos (by omega)) (nI_pos (by omega)) (nI_pos (by omega))
        (by rw [nn sp (by omega), nn n (by omega)]; rw [hsl0]; show ¬ _ > ((arrV 0 n1 (fun j => va_rf (f j))).slots.size : Int); rw [arrV_size]; omega)
        (by rw [nn dp (by omega), nn n (by omega)]; show ¬ _ > ((arrV (E.2.1 3) n2 (fun j => va_rf (g j))).slots.size : Int); rw [arrV_size]; omega)
        (fun vm₁ hal i hi => by
      have hi : i < n := by rw [nI_clamp (by omega)] at hi; exact hi
      have e : cs.slots.getD ((nI sp).toNatClampNeg + i) .null = va_rf (f (sp + i)) := by
        rw [hsl0]
        show (arrV 0 n1 (fun j => va_rf (f j))).slots.getD _ _ = _
        rw [nI_clamp (by omega), Array.getD_eq_getD_getElem?, arrV_read _ _ (by omega)]
        rfl
      rw [e]
      cases hy : f (sp + i) with
      | none => exact ⟨rfl, trivial⟩
      | some y =>
        obtain ⟨cellV, g1, g2, ⟨kC, hkC⟩, hasg⟩ := jobn.any hr hkk (h12 i hi y hy)
        obtain ⟨kA, comp, r1, r2, r3, -⟩ := (hkk.1.2 3 _ rfl).2
        cases hk1.symm.trans r1
        cases hkk1.symm.trans r2
        obtain ⟨kE, hkE, -⟩ := Vm.findClass_spec r3
        obtain ⟨kC', hkC', -⟩ := hal.2.2 _ _ hkC
        obtain ⟨kE', hkE', -⟩ := hal.2.2 _ _ hkE
        refine ⟨rfl, cellV, (show T9.heap[y]? = some cellV by rw [hT9]; exact g1), (fun q h => by rw [h] at g2; cases g2), ⟨kC', hkC'⟩, ?_, ?_⟩
        · exact ⟨kE', hkE'⟩
        · show vm₁.assignable _ _ = true
          rw [hal.assignable]
          exact hasg _ r3)
        (g := F0 m pc ls (.int (nI n) :: .int (nI dp) :: .ref a :: .int (nI sp) :: .ref a0 :: S'.map jV)) rfl (by rw [hml]; exact hl.2.1) (rest := S'.map jV) rfl (by rw [hb]; exact hd) (Nat.le_trans hdep hroom.1) (by
          show 2 * 0 + ((S'.map jV).map fun v => v.category).sum + _ ≤ R.locals
          rw [jWs_cat]
          have h1 := hroom.2
          have h2 := jlc_one hdep
          have h3 : nativeFrameWords "java/lang/System" "arraycopy" 5 + 11 ≤ 30 := by decide
          omega)
      have e1 : copied cs (vp_cell (E.2.1 3) (aR n2 g)) (nI sp) (nI dp) (nI n) = vp_cell (E.2.1 3) (aR n2 (va_cpy f g sp dp n)) := by
        have h0 := va_copied (fun z => va_rf z) 0 (E.2.1 3) (dp := dp) (n1 := n2) f g h8
        show (arrV (E.2.1 3) n2 (fun j => va_rf (g j))).storeRun (nI dp).toNatClampNeg (cs.stretch (nI sp).toNatClampNeg (nI n).toNatClampNeg) = _
        have e2 : cs.stretch (nI sp).toNatClampNeg (nI n).toNatClampNeg = (arrV 0 n1 (fun j => va_rf (f j))).stretch (nI sp).toNatClampNeg (nI n).toNatClampNeg := by unfold Cell.stretch; rw [hsl0]; rfl
        rw [e2]
        rw [nI_clamp (n := sp) (by omega), nI_clamp (n := dp) (by omega), nI_clamp (n := n) (by omega)]
        exact h0
      rw [e1] at X' step
      have hlt : a < Hr.size := (Array.getElem?_eq_some_iff.mp hc1).1
      have hheap : ((T9.setVm vm').setCell a (vp_cell (E.2.1 3) (aR n2 (va_cpy f g sp dp n)))).heap = Hr.setIfInBounds a (vp_cell (E.2.1 3) (aR n2 (va_cpy f g sp dp n))) := by rw [← hT9]; rfl
      obtain ⟨t, a1, b1⟩ := (hK _ _ _ _ h13).2 (Hr.setIfInBounds a (vp_cell (E.2.1 3) (aR n2 (va_cpy f g sp dp n)))) _ ls (hr.up h4 (by simp) (fun q hq => by simp [Array.getElem?_setIfInBounds, Ne.symm hq]) (show (Hr.setIfInBounds a _)[a]? = some _ by simp [Array.getElem?_setIfInBounds, hlt])) (fun q hq => by
          rcases List.mem_append.mp hq with h | h
          · exact hlo q h
          · obtain ⟨z, -, hz⟩ := List.mem_map.mp h
            rw [← hz]
            exact hb9) (by simp; exact hz) hl hw _ hheap X'
      exact ⟨t, step t a1, b1⟩
  next => exact hI.elim
theorem sd_ldcwS {idx k : Nat} {tx : String} (hs : (M.1, idx, tx, k) ∈ jstr) (hd : decode M.2.1 pc = .ok (.ldc_w idx, 3)) : jsnd E T M pc (o_push (jR (some (E.2.2.2.1 k))) 3) := by
  intro w0 wE p l e R s m args below meth c Q hc Cc K Rt hC hK hR Lo S H hI Hr locs ls hr hlo hz hl hw
  obtain ⟨hx, hb, hml, hown, hts, hkk, hret, hin, htab, hlk, hroom, hcel, hst, hb0⟩ := hc
  unfold o_push at hI
  have hZ := hkk.2.2.2.2.2.2.2.1 _ hs
  intro T9 hT9 X
  obtain ⟨t, a1, b1⟩ := (hK _ _ _ _ hI).2 Hr locs ls hr hlo hz hl hw T9 hT9 X
  refine ⟨t, ?_, b1⟩
  obtain ⟨k9, cf, i, a', hk, hcf, hcp, -, hrs, hev'⟩ := Cond.stringRef_spec hown hZ.1
  cases hZ.2.symm.trans hev'
  obtain ⟨k', hk', he⟩ := X.warmed.alike.2.2 _ _ hk
  have hr' : k'.resolved[idx]? = some (some (.string (E.2.2.2.1 k))) := by
    rcases X.warmed.entry hk hk' idx with h | ⟨h, -⟩
    · rw [h]; exact hrs
    · rw [hrs] at h; cases h
  have hd' : decode c.code pc = .ok (.ldc_w idx, 3) := by rw [hb]; exact hd
  have hk2 : T9.vm.classes[(F0 m pc ls (S.map jV)).method.cls]? = some k' := hk'
  jvm_step X.here [X.here.top, hx, hd', ldc_w.wp_string (e := e) (s := T9) (f := F0 m pc ls (S.map jV)) X.here.top hk2 (by rw [he]; exact hcf) hcp hr']
  exact a1
end SDCP
