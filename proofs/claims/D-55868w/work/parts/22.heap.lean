/-! SOUNDNESS: fields, arrays, new, casts, statics, copies -/
set_option maxRecDepth 100000
theorem jcl_lt {c : Nat} {r : vw_C} (h : jcl[c]? = some r) : c < 900 := Nat.lt_of_lt_of_le (List.getElem?_eq_some_iff.mp h).1 (by decide)
theorem jat.ob {E : JE} {a c : Nat} {fs : List JVal} {Hr : Heap} {r : vw_C} (hc : jcl[c]? = some r) (h : jat E a (jO c fs) Hr) : fs.length = r.2.2 ∧ t_OB a (E.1.1 c) r.2.2 (E.1.2 c) Hr (vp_V (fs.map jV)) := by
  rcases h with ⟨r', h1, h2, h3⟩ | ⟨h1, -⟩
  · cases Option.some.inj (hc.symm.trans h1)
    exact ⟨h2, h3⟩
  · have h2 := jcl_lt hc
    have h1 : c = 999 := h1
    omega
theorem jat.PA {E : JE} {a k : Nat} {v : vp_A} {Hr : Heap} (h : jat E a (jA k v) Hr) : va_P E.1 jcl [(a, .inl (E.2.1 k, v))] Hr := by
  intro j q hq
  have hk : j < 1 := (List.getElem?_eq_some_iff.mp hq).1
  rw [show j = 0 by omega] at hq
  cases hq
  exact h
theorem jn_get2 {α : Type} {l : List α} {n : Nat} {a : α} (h : jn l n = some a) : l[n]? = some a := by rw [← jn_get]; exact h
/-- an object, read -/
theorem jrel.rdO {E : JE} {H : JHp} {Hr : Heap} (h : jrel E H Hr) {a c : Nat} {fs : List JVal} (ho : job H a c fs) {r : vw_C} (hc : jcl[c]? = some r) : ∃ cell : Cell, Hr[a]? = some cell ∧ cell.cls = E.1.1 c ∧ cell.vm.isStatics = false ∧ cell.vm ≠ .unknown ∧ ∀ k v, jn fs k = some v → cell.slots[E.1.2 c k]? = some (jV v) := by
  obtain ⟨b, ho⟩ := ho
  cases b with
  | true =>
    obtain ⟨hlen, cell, q1, q2, q3, q4⟩ := ((h.tr ho).2).ob hc
    refine ⟨cell, q1, q2, by rw [q3]; rfl, (by rw [q3]; exact fun e => (by cases e)), fun k v hk => ?_⟩
    have hlt := jn_lt hk
    rw [q4 k (by rw [← hlen]; exact hlt)]
    simp only [vp_V, List.getD_eq_getElem?_getD, List.getElem?_map, jn_get2 hk]
    rfl
  | false =>
    obtain ⟨r2, h1, cell, h2⟩ := (h.2.2.2 _ _ _ ho).2 rfl
    exact ⟨cell, h2⟩
theorem arrOfT_is {s : State} {cell : Cell} {ty : FieldType} (h : ArrOfT s cell.cls ty) (hs : cell.vm.isStatics = false) : s.isArrayOf cell ty := by
  obtain ⟨-, kA, h1, comp, h2⟩ := h 0 (fun _ => .null)
  exact ⟨fun k e => (by rw [e] at hs; cases hs), kA, h1, comp, h2⟩
/-- an array, read -/
theorem jrel.rdA {E : JE} {H : JHp} {Hr : Heap} {s : State} (h : jrel E H Hr) (hkk : jkk E s) {a k : Nat} {A : vp_A} (ho : jar H a k A) {ty : FieldType} (ht : (jtys E.2.1)[k]? = some (E.2.1 k, ty)) : ∃ cell : Cell, Hr[a]? = some cell ∧ s.isArrayOf cell ty ∧ cell.vm ≠ .unknown ∧ cell.vm.isStatics = false ∧ cell.slots = (vp_cell 0 A).slots := by
  obtain ⟨b, ho⟩ := ho
  cases b with
  | true =>
    have hat : Hr[a]? = some (vp_cell (E.2.1 k) A) := (h.tr ho).2
    obtain ⟨n, f | f | f | f | f⟩ := A
    all_goals exact ⟨_, hat, (hkk.1.2 k _ ht).1 n _, (fun e => by cases e), rfl, rfl⟩
  | false =>
    obtain ⟨ty2, cell, h1, h2, h3, h4, h5, h6⟩ := (h.2.2.2 _ _ _ ho).2 rfl
    cases Option.some.inj ((jtls_of ht).symm.trans h1)
    exact ⟨cell, h2, arrOfT_is (arrOfT_moved hkk.2.2.2.2.2.2.2.2.2.2.2.2.1 h3) h4, h5, h4, h6⟩
theorem jn_map {fs : List JVal} {k : Nat} {v : JVal} (h : jn fs k = some v) : (fs.map jV)[k]? = some (jV v) := by
  rw [jn_get] at h
  rw [List.getElem?_map, h]
  rfl
theorem jset_map (fs : List JVal) (k : Nat) (v : JVal) : (jset fs k v).map jV = (fs.map jV).set k (jV v) := by
  rw [jset_eq, List.map_set]
theorem jbool_fit {x : Int32} (h : jbool x) : narrow .boolean (.int x) = .int x ∧ fits .boolean (.int x) = true := by
  rcases h with h | h <;> subst h <;> decide
theorem jbyte_fit {x : Int32} (h : jbyte x) : narrow .byte (.int x) = .int x ∧ fits .byte (.int x) = true := by
  have h : x.toInt8.toInt32 = x := h
  have h1 := pk_nb x
  have h2 := pk_fb x
  rw [h] at h1 h2
  exact ⟨h1, h2⟩
theorem jint_fit (x : Int32) : narrow .int (.int x) = .int x ∧ fits .int (.int x) = true := ⟨rfl, rfl⟩
theorem jref_fit (C : String) (r : Option Nat) : narrow (.object C) (va_rf r) = va_rf r ∧ fits (.object C) (va_rf r) = true := by cases r <;> exact ⟨rfl, rfl⟩
theorem jarr_fit (t : FieldType) (r : Option Nat) : narrow (.array t) (va_rf r) = va_rf r ∧ fits (.array t) (va_rf r) = true := by cases r <;> exact ⟨rfl, rfl⟩
/-- a row of a class's field table, as an instruction names it -/
def jfl (M : JM) (idx : Nat) (ow nm ds : String) : Prop := ∃ ref : String, Cond.fieldLink M.1 idx ref nm ds ∈ lw_all ∧ (ref = ow ∨ Cond.sameField ref ow nm ds ∈ lw_all)
theorem jfl.a {M : JM} {idx : Nat} {ow nm ds : String} (h : Cond.fieldLink M.1 idx ow nm ds ∈ lw_all) : jfl M idx ow nm ds := ⟨ow, h, Or.inl rfl⟩
theorem jfl.b {M : JM} {idx : Nat} {ref ow nm ds : String} (h : Cond.fieldLink M.1 idx ref nm ds ∈ lw_all) (h2 : Cond.sameField ref ow nm ds ∈ lw_all) : jfl M idx ow nm ds := ⟨ref, h, Or.inr h2⟩
theorem jfl.same {args : Array Value} {s : State} {ref ow nm ds : String} (hts : ∀ w ∈ lw_all, w.before args s = true) (h : ref = ow ∨ Cond.sameField ref ow nm ds ∈ lw_all) : ∀ x, s.fieldFound? ow nm ds = some x → s.fieldFound? ref nm ds = some x := by
  rcases h with h | h
  · subst h; exact fun _ h => h
  · exact fun x hx => u_same (hts _ h) x hx
section SDH
variable {E : JE} {T : Nat → JI} {M : JM} {pc : Nat}
theorem sd_getfi {ci k idx : Nat} {C ow nm ds : String} {U : u_T} {N : Nat} {fin : Bool} (hcl : jcl[ci]? = some (C, U, N)) (hws : ∀ w ∈ u_ws C U N, w ∈ lw_all) (hk : k < N) (hU : U k = (ow, nm, ds, fin)) (hq : jfl M idx ow nm ds) (hd : decode M.2.1 pc = .ok (.getfield idx, 3)) : jsnd E T M pc (o_getfi ci k) := by
  intro w0 wE p l e R s m args below meth c Q hc Cc K Rt hC hK hR L S H hI Hr locs ls hr hlo hz hl hw
  obtain ⟨hx, hb, hml, hown, hts, hkk, hret, hin, htab, hlk, hroom, hcel, hst, hb0⟩ := hc
  unfold o_getfi at hI
  split at hI
  next r S' =>
    obtain ⟨a, fs, x, rfl, h2, h3, h4⟩ := hI
    obtain ⟨cell, q1, q2, q3, q4, q5⟩ := hr.rdO h2 hcl
    obtain ⟨hS, hfc, kC, hkC, hkind⟩ := hkk.1.1 ci _ hcl
    obtain ⟨cf, kf, fi, f, hi, hsl⟩ := hS k hk
    have hi : s.fieldFound? (U k).1 (U k).2.1 (U k).2.2.1 = some (cf, kf, fi, f) := hi
    have hst9 := (u_facts hfc hkC (u_lays hts hws hk) hi).1
    obtain ⟨ref, hq1, hq2⟩ := hq
    exact W.getf hx hb hown (hts _ hq1) (jfl.same hts hq2 _ (by rw [hU] at hi; exact hi)) hst9 q1 q4 (v := jV (jI x)) (by rw [hsl]; exact q5 _ _ h3) rfl rfl hd ((hK _ _ _ _ h4).2 Hr locs ls hr hlo hz hl hw)
  next => exact hI.elim
theorem sd_getfiN {ci k idx : Nat} {C ow nm ds : String} {U : u_T} {N : Nat} {fin : Bool} (hcl : jcl[ci]? = some (C, U, N)) (hws : ∀ w ∈ u_ws C U N, w ∈ lw_all) (hk : k < N) (hU : U k = (ow, nm, ds, fin)) {host : String} (hq : Cond.fieldLinkNest M.1 idx ow nm ds host ∈ jnw) (hd : decode M.2.1 pc = .ok (.getfield idx, 3)) : jsnd E T M pc (o_getfi ci k) := by
  intro w0 wE p l e R s m args below meth c Q hc Cc K Rt hC hK hR L S H hI Hr locs ls hr hlo hz hl hw
  obtain ⟨hx, hb, hml, hown, hts, hkk, hret, hin, htab, hlk, hroom, hcel, hst, hb0⟩ := hc
  unfold o_getfi at hI
  split at hI
  next r S' =>
    obtain ⟨a, fs, x, rfl, h2, h3, h4⟩ := hI
    obtain ⟨cell, q1, q2, q3, q4, q5⟩ := hr.rdO h2 hcl
    obtain ⟨hS, hfc, kC, hkC, hkind⟩ := hkk.1.1 ci _ hcl
    obtain ⟨cf, kf, fi, f, hi, hsl⟩ := hS k hk
    have hi : s.fieldFound? (U k).1 (U k).2.1 (U k).2.2.1 = some (cf, kf, fi, f) := hi
    have hst9 := (u_facts hfc hkC (u_lays hts hws hk) hi).1
    exact va_Wgetf hx hb hown (va_Nw.use rfl (hkk.2.1 _ hq)) (show s.fieldFound? ow nm ds = some (cf, kf, fi, f) by rw [hU] at hi; exact hi) hst9 q1 q4 (v := jV (jI x)) (by rw [hsl]; exact q5 _ _ h3) rfl rfl hd ((hK _ _ _ _ h4).2 Hr locs ls hr hlo hz hl hw)
  next => exact hI.elim
theorem sd_getfr {ci k idx : Nat} {C ow nm ds : String} {U : u_T} {N : Nat} {fin : Bool} (hcl : jcl[ci]? = some (C, U, N)) (hws : ∀ w ∈ u_ws C U N, w ∈ lw_all) (hk : k < N) (hU : U k = (ow, nm, ds, fin)) (hq : jfl M idx ow nm ds) (hd : decode M.2.1 pc = .ok (.getfield idx, 3)) : jsnd E T M pc (o_getfr ci k) := by
  intro w0 wE p l e R s m args below meth c Q hc Cc K Rt hC hK hR L S H hI Hr locs ls hr hlo hz hl hw
  obtain ⟨hx, hb, hml, hown, hts, hkk, hret, hin, htab, hlk, hroom, hcel, hst, hb0⟩ := hc
  unfold o_getfr at hI
  split at hI
  next r S' =>
    obtain ⟨a, fs, x, rfl, h2, h3, h4⟩ := hI
    obtain ⟨cell, q1, q2, q3, q4, q5⟩ := hr.rdO h2 hcl
    obtain ⟨hS, hfc, kC, hkC, hkind⟩ := hkk.1.1 ci _ hcl
    obtain ⟨cf, kf, fi, f, hi, hsl⟩ := hS k hk
    have hi : s.fieldFound? (U k).1 (U k).2.1 (U k).2.2.1 = some (cf, kf, fi, f) := hi
    have hst9 := (u_facts hfc hkC (u_lays hts hws hk) hi).1
    obtain ⟨ref, hq1, hq2⟩ := hq
    exact W.getf hx hb hown (hts _ hq1) (jfl.same hts hq2 _ (by rw [hU] at hi; exact hi)) hst9 q1 q4 (v := jV (jR x)) (by rw [hsl]; exact q5 _ _ h3) rfl rfl hd ((hK _ _ _ _ h4).2 Hr locs ls hr hlo hz hl hw)
  next => exact hI.elim
theorem sd_getfrN {ci k idx : Nat} {C ow nm ds : String} {U : u_T} {N : Nat} {fin : Bool} (hcl : jcl[ci]? = some (C, U, N)) (hws : ∀ w ∈ u_ws C U N, w ∈ lw_all) (hk : k < N) (hU : U k = (ow, nm, ds, fin)) {host : String} (hq : Cond.fieldLinkNest M.1 idx ow nm ds host ∈ jnw) (hd : decode M.2.1 pc = .ok (.getfield idx, 3)) : jsnd E T M pc (o_getfr ci k) := by
  intro w0 wE p l e R s m args below meth c Q hc Cc K Rt hC hK hR L S H hI Hr locs ls hr hlo hz hl hw
  obtain ⟨hx, hb, hml, hown, hts, hkk, hret, hin, htab, hlk, hroom, hcel, hst, hb0⟩ := hc
  unfold o_getfr at hI
  split at hI
  next r S' =>
    obtain ⟨a, fs, x, rfl, h2, h3, h4⟩ := hI
    obtain ⟨cell, q1, q2, q3, q4, q5⟩ := hr.rdO h2 hcl
    obtain ⟨hS, hfc, kC, hkC, hkind⟩ := hkk.1.1 ci _ hcl
    obtain ⟨cf, kf, fi, f, hi, hsl⟩ := hS k hk
    have hi : s.fieldFound? (U k).1 (U k).2.1 (U k).2.2.1 = some (cf, kf, fi, f) := hi
    have hst9 := (u_facts hfc hkC (u_lays hts hws hk) hi).1
    exact va_Wgetf hx hb hown (va_Nw.use rfl (hkk.2.1 _ hq)) (show s.fieldFound? ow nm ds = some (cf, kf, fi, f) by rw [hU] at hi; exact hi) hst9 q1 q4 (v := jV (jR x)) (by rw [hsl]; exact q5 _ _ h3) rfl rfl hd ((hK _ _ _ _ h4).2 Hr locs ls hr hlo hz hl hw)
  next => exact hI.elim
theorem sd_getfl {ci k idx : Nat} {C ow nm ds : String} {U : u_T} {N : Nat} {fin : Bool} (hcl : jcl[ci]? = some (C, U, N)) (hws : ∀ w ∈ u_ws C U N, w ∈ lw_all) (hk : k < N) (hU : U k = (ow, nm, ds, fin)) (hq : jfl M idx ow nm ds) (hd : decode M.2.1 pc = .ok (.getfield idx, 3)) : jsnd E T M pc (o_getfl ci k) := by
  intro w0 wE p l e R s m args below meth c Q hc Cc K Rt hC hK hR L S H hI Hr locs ls hr hlo hz hl hw
  obtain ⟨hx, hb, hml, hown, hts, hkk, hret, hin, htab, hlk, hroom, hcel, hst, hb0⟩ := hc
  unfold o_getfl at hI
  split at hI
  next r S' =>
    obtain ⟨a, fs, x, rfl, h2, h3, h4⟩ := hI
    obtain ⟨cell, q1, q2, q3, q4, q5⟩ := hr.rdO h2 hcl
    obtain ⟨hS, hfc, kC, hkC, hkind⟩ := hkk.1.1 ci _ hcl
    obtain ⟨cf, kf, fi, f, hi, hsl⟩ := hS k hk
    have hi : s.fieldFound? (U k).1 (U k).2.1 (U k).2.2.1 = some (cf, kf, fi, f) := hi
    have hst9 := (u_facts hfc hkC (u_lays hts hws hk) hi).1
    obtain ⟨ref, hq1, hq2⟩ := hq
    exact W.getf hx hb hown (hts _ hq1) (jfl.same hts hq2 _ (by rw [hU] at hi; exact hi)) hst9 q1 q4 (v := jV (jL x)) (by rw [hsl]; exact q5 _ _ h3) rfl rfl hd ((hK _ _ _ _ h4).2 Hr locs ls hr hlo hz hl hw)
  next => exact hI.elim
theorem sd_getflN {ci k idx : Nat} {C ow nm ds : String} {U : u_T} {N : Nat} {fin : Bool} (hcl : jcl[ci]? = some (C, U, N)) (hws : ∀ w ∈ u_ws C U N, w ∈ lw_all) (hk : k < N) (hU : U k = (ow, nm, ds, fin)) {host : String} (hq : Cond.fieldLinkNest M.1 idx ow nm ds host ∈ jnw) (hd : decode M.2.1 pc = .ok (.getfield idx, 3)) : jsnd E T M pc (o_getfl ci k) := by
  intro w0 wE p l e R s m args below meth c Q hc Cc K Rt hC hK hR L S H hI Hr locs ls hr hlo hz hl hw
  obtain ⟨hx, hb, hml, hown, hts, hkk, hret, hin, htab, hlk, hroom, hcel, hst, hb0⟩ := hc
  unfold o_getfl at hI
  split at hI
  next r S' =>
    obtain ⟨a, fs, x, rfl, h2, h3, h4⟩ := hI
    obtain ⟨cell, q1, q2, q3, q4, q5⟩ := hr.rdO h2 hcl
    obtain ⟨hS, hfc, kC, hkC, hkind⟩ := hkk.1.1 ci _ hcl
    obtain ⟨cf, kf, fi, f, hi, hsl⟩ := hS k hk
    have hi : s.fieldFound? (U k).1 (U k).2.1 (U k).2.2.1 = some (cf, kf, fi, f) := hi
    have hst9 := (u_facts hfc hkC (u_lays hts hws hk) hi).1
    exact va_Wgetf hx hb hown (va_Nw.use rfl (hkk.2.1 _ hq)) (show s.fieldFound? ow nm ds = some (cf, kf, fi, f) by rw [hU] at hi; exact hi) hst9 q1 q4 (v := jV (jL x)) (by rw [hsl]; exact q5 _ _ h3) rfl rfl hd ((hK _ _ _ _ h4).2 Hr locs ls hr hlo hz hl hw)
  next => exact hI.elim
/-- what a store into a field leaves -/
theorem jput_rel {E : JE} {H : JHp} {Hr H1 : Heap} (h : jrel E H Hr) {a ci k : Nat} {fs : List JVal} {C : String} {U : u_T} {N : Nat} {cell : Cell} {v : JVal} (hcl : jcl[ci]? = some (C, U, N)) (h0 : H.1 a = some (true, jO ci fs)) (hk : k < N)
    (q2 : cell.cls = E.1.1 ci) (q3 : cell.vm = .none) (q4 : ∀ k, k < N → cell.slots[E.1.2 ci k]? = some (vp_V (fs.map jV) k)) (hap : ∀ x y, x < N → y < N → x ≠ y → (E.1.2 ci) x ≠ (E.1.2 ci) y)
    (e1 : H1[a]? = some (cell.setSlot (E.1.2 ci k) (jV v))) (e2 : H1.size = Hr.size) (e3 : ∀ q, q ≠ a → H1[q]? = Hr[q]?) : jrel E (jup H a (jO ci (jset fs k v))) H1 := by
  have hat := (h.tr h0).2
  obtain ⟨hlen, -⟩ := hat.ob hcl
  refine h.up h0 e2 e3 (Or.inl ⟨_, hcl, ?_, ?_⟩)
  · show (jset fs k v).length = N
    rw [jset_len]
    exact hlen
  · show t_OB a (E.1.1 ci) N (E.1.2 ci) H1 (vp_V ((jset fs k v).map jV))
    rw [jset_map]
    exact t_OB.to (V := updV (vp_V (fs.map jV)) k (jV v)) ⟨_, e1, q2, q3, t_set q4 hap hk (jV v)⟩ (fun j _ => vp_updV_set (by rw [List.length_map]; exact (show fs.length = N from hlen) ▸ hk) (jV v) j)
theorem sd_putfi {ci k idx : Nat} {C ow nm ds : String} {U : u_T} {N : Nat} {fin : Bool} (hcl : jcl[ci]? = some (C, U, N)) (hws : ∀ w ∈ u_ws C U N, w ∈ lw_all) (hk : k < N) (hU : U k = (ow, nm, ds, fin)) (ty0 : Nat → FieldType) (hty : ∀ k, k < N → parseFieldDescriptor (U k).2.2.1 = some (ty0 k)) (hnm : ∀ a, a < N → ∀ b, b < N → a ≠ b → (U a).2.1 ≠ (U b).2.1) {ty : FieldType} (hds : parseFieldDescriptor ds = some ty) (hfit : ∀ x : Int32, narrow ty (.int x) = .int x ∧ fits ty (.int x) = true) (hq : jfl M idx ow nm ds) (hfin : fin = false) (hd : decode M.2.1 pc = .ok (.putfield idx, 3)) : jsnd E T M pc (o_putfi ci k) := by
  intro w0 wE p l e R s m args below meth c Q hc Cc K Rt hC hK hR L S H hI Hr locs ls hr hlo hz hl hw
  obtain ⟨hx, hb, hml, hown, hts, hkk, hret, hin, htab, hlk, hroom, hcel, hst, hb0⟩ := hc
  unfold o_putfi at hI
  split at hI
  next x r S' =>
    obtain ⟨a, fs, v, rfl, h2, h3, h4⟩ := hI
    have hfx := (hfit x)
    have hap := va_apart (own := M.1) hts hws ty0 hty hnm hkk.1 hcl
    obtain ⟨hlen, cell, q1, q2, q3, q4⟩ := ((hr.tr h2).2).ob hcl
    obtain ⟨hS, hfc, kC, hkC, hkind⟩ := hkk.1.1 ci _ hcl
    obtain ⟨cf, kf, fi, f, hi, hsl⟩ := hS k hk
    have hi : s.fieldFound? (U k).1 (U k).2.1 (U k).2.2.1 = some (cf, kf, fi, f) := hi
    have hb9 := (hr.tr h2).1
    have hlay := hts _ (hws _ (u_in_lay hk))
    unfold u_lay at hlay
    have hst9 := (u_facts hfc hkC (u_lays hts hws hk) hi).1
    rw [if_neg (by rw [hU]; exact fun z => by rw [hfin] at z; cases z)] at hlay
    have h6 := u_store (ty := ty) (v := jV (jI x)) hfc hkC hkind hlay hi (by rw [hU]; exact hds) hfx.1 hfx.2
    obtain ⟨ref, hq1, hq2⟩ := hq
    have hlink : (Cond.fieldLink M.1 idx ref nm ds).before args s = true := hts _ hq1
    have hi2 : s.fieldFound? ref nm ds = some (cf, kf, fi, f) := jfl.same hts hq2 _ (by rw [hU] at hi; exact hi)
    refine W.putK hx hb (f := f) ⟨hown, hlink, ⟨_, _, _, hi2⟩, hst9⟩ (by rw [q2]; exact h6) q1 q3 (by rw [hsl]; exact k2_hasslot (q4 k hk)) rfl rfl hd fun H1 e1 e2 e3 => ?_
    rw [hsl] at e1
    refine (hK _ _ _ _ h4).2 H1 _ ls (jput_rel hr hcl h2 hk q2 q3 q4 hap e1 e2 e3) (fun q hq => ?_) (by rw [e2]; exact hz) hl hw
    rcases List.mem_append.mp hq with h | h
    · exact hlo q h
    · rw [List.mem_singleton.mp h]
      exact hb9
  next => exact hI.elim
theorem sd_putfiF {ci k idx : Nat} {C ow nm ds : String} {U : u_T} {N : Nat} {fin : Bool} (hcl : jcl[ci]? = some (C, U, N)) (hws : ∀ w ∈ u_ws C U N, w ∈ lw_all) (hk : k < N) (hU : U k = (ow, nm, ds, fin)) (ty0 : Nat → FieldType) (hty : ∀ k, k < N → parseFieldDescriptor (U k).2.2.1 = some (ty0 k)) (hnm : ∀ a, a < N → ∀ b, b < N → a ≠ b → (U a).2.1 ≠ (U b).2.1) {ty : FieldType} (hds : parseFieldDescriptor ds = some ty) (hfit : ∀ x : Int32, narrow ty (.int x) = .int x ∧ fits ty (.int x) = true) (hq : jfl M idx ow nm ds) (hfin : fin = true) (hnm0 : M.2.2.2.2.1.1 = "<init>") (how : ow = M.1) (hd : decode M.2.1 pc = .ok (.putfield idx, 3)) : jsnd E T M pc (o_putfi ci k) := by
  intro w0 wE p l e R s m args below meth c Q hc Cc K Rt hC hK hR L S H hI Hr locs ls hr hlo hz hl hw
  obtain ⟨hx, hb, hml, hown, hts, hkk, hret, hin, htab, hlk, hroom, hcel, hst, hb0⟩ := hc
  unfold o_putfi at hI
  split at hI
  next x r S' =>
    obtain ⟨a, fs, v, rfl, h2, h3, h4⟩ := hI
    have hfx := (hfit x)
    have hap := va_apart (own := M.1) hts hws ty0 hty hnm hkk.1 hcl
    obtain ⟨hlen, cell, q1, q2, q3, q4⟩ := ((hr.tr h2).2).ob hcl
    obtain ⟨hS, hfc, kC, hkC, hkind⟩ := hkk.1.1 ci _ hcl
    obtain ⟨cf, kf, fi, f, hi, hsl⟩ := hS k hk
    have hi : s.fieldFound? (U k).1 (U k).2.1 (U k).2.2.1 = some (cf, kf, fi, f) := hi
    have hb9 := (hr.tr h2).1
    have hlay := hts _ (hws _ (u_in_lay hk))
    unfold u_lay at hlay
    have hst9 := (u_facts hfc hkC (u_lays hts hws hk) hi).1
    rw [if_pos (by rw [hU]; exact hfin)] at hlay
    have hcf : m.cls = cf := by
      obtain ⟨_, _, c', _, _, _, -, -, hf', -, -, -, hown2, -⟩ := Cond.laysFinal_spec hlay
      have e1 : c' = cf := by have := hi.symm.trans hf'; simp at this; exact this.1.symm
      rw [hU] at hown2
      have hown2 : s.vm.findClass ow = some c' := hown2
      rw [how] at hown2
      rw [← e1]; exact Option.some.inj (hown.symm.trans hown2)
    have h6 := u_fits (ty := ty) (v := jV (jI x)) hfc hkC hkind (Or.inr hlay) hi (by rw [hU]; exact hds) hfx.1 hfx.2
    obtain ⟨ref, hq1, hq2⟩ := hq
    have hlink : (Cond.fieldLink M.1 idx ref nm ds).before args s = true := hts _ hq1
    have hi2 : s.fieldFound? ref nm ds = some (cf, kf, fi, f) := jfl.same hts hq2 _ (by rw [hU] at hi; exact hi)
    refine W.putFinK hx hb hown hlink hi2 hst9 hcf (hin hnm0).1 (by rw [q2]; exact h6) q1 q3 (by rw [hsl]; exact k2_hasslot (q4 k hk)) rfl rfl hd fun H1 e1 e2 e3 => ?_
    rw [hsl] at e1
    refine (hK _ _ _ _ h4).2 H1 _ ls (jput_rel hr hcl h2 hk q2 q3 q4 hap e1 e2 e3) (fun q hq => ?_) (by rw [e2]; exact hz) hl hw
    rcases List.mem_append.mp hq with h | h
    · exact hlo q h
    · rw [List.mem_singleton.mp h]
      exact hb9
  next => exact hI.elim
theorem sd_putfiN {ci k idx : Nat} {C ow nm ds : String} {U : u_T} {N : Nat} {fin : Bool} (hcl : jcl[ci]? = some (C, U, N)) (hws : ∀ w ∈ u_ws C U N, w ∈ lw_all) (hk : k < N) (hU : U k = (ow, nm, ds, fin)) (ty0 : Nat → FieldType) (hty : ∀ k, k < N → parseFieldDescriptor (U k).2.2.1 = some (ty0 k)) (hnm : ∀ a, a < N → ∀ b, b < N → a ≠ b → (U a).2.1 ≠ (U b).2.1) {ty : FieldType} (hds : parseFieldDescriptor ds = some ty) (hfit : ∀ x : Int32, narrow ty (.int x) = .int x ∧ fits ty (.int x) = true) {host : String} (hq : Cond.fieldLinkNest M.1 idx ow nm ds host ∈ jnw) (hfin : fin = false) (hd : decode M.2.1 pc = .ok (.putfield idx, 3)) : jsnd E T M pc (o_putfi ci k) := by
  intro w0 wE p l e R s m args below meth c Q hc Cc K Rt hC hK hR L S H hI Hr locs ls hr hlo hz hl hw
  obtain ⟨hx, hb, hml, hown, hts, hkk, hret, hin, htab, hlk, hroom, hcel, hst, hb0⟩ := hc
  unfold o_putfi at hI
  split at hI
  next x r S' =>
    obtain ⟨a, fs, v, rfl, h2, h3, h4⟩ := hI
    have hfx := (hfit x)
    have hap := va_apart (own := M.1) hts hws ty0 hty hnm hkk.1 hcl
    obtain ⟨hlen, cell, q1, q2, q3, q4⟩ := ((hr.tr h2).2).ob hcl
    obtain ⟨hS, hfc, kC, hkC, hkind⟩ := hkk.1.1 ci _ hcl
    obtain ⟨cf, kf, fi, f, hi, hsl⟩ := hS k hk
    have hi : s.fieldFound? (U k).1 (U k).2.1 (U k).2.2.1 = some (cf, kf, fi, f) := hi
    have hb9 := (hr.tr h2).1
    have hlay := hts _ (hws _ (u_in_lay hk))
    unfold u_lay at hlay
    have hst9 := (u_facts hfc hkC (u_lays hts hws hk) hi).1
    rw [if_neg (by rw [hU]; exact fun z => by rw [hfin] at z; cases z)] at hlay
    have h6 := u_store (ty := ty) (v := jV (jI x)) hfc hkC hkind hlay hi (by rw [hU]; exact hds) hfx.1 hfx.2
    have hi2 : s.fieldFound? ow nm ds = some (cf, kf, fi, f) := by rw [hU] at hi; exact hi
    refine va_WputK hx hb (f := f) hown (va_Nw.use rfl (hkk.2.1 _ hq)) hi2 hst9 (by rw [q2]; exact h6) q1 q3 (by rw [hsl]; exact k2_hasslot (q4 k hk)) rfl rfl hd fun H1 e1 e2 e3 => ?_
    rw [hsl] at e1
    refine (hK _ _ _ _ h4).2 H1 _ ls (jput_rel hr hcl h2 hk q2 q3 q4 hap e1 e2 e3) (fun q hq => ?_) (by rw [e2]; exact hz) hl hw
    rcases List.mem_append.mp hq with h | h
    · exact hlo q h
    · rw [List.mem_singleton.mp h]
      exact hb9
  next => exact hI.elim
theorem sd_putfr {ci k idx : Nat} {C ow nm ds : String} {U : u_T} {N : Nat} {fin : Bool} (hcl : jcl[ci]? = some (C, U, N)) (hws : ∀ w ∈ u_ws C U N, w ∈ lw_all) (hk : k < N) (hU : U k = (ow, nm, ds, fin)) (ty0 : Nat → FieldType) (hty : ∀ k, k < N → parseFieldDescriptor (U k).2.2.1 = some (ty0 k)) (hnm : ∀ a, a < N → ∀ b, b < N → a ≠ b → (U a).2.1 ≠ (U b).2.1) {ty : FieldType} (hds : parseFieldDescriptor ds = some ty) (hfit : ∀ x : Option Nat, narrow ty (va_rf x) = va_rf x ∧ fits ty (va_rf x) = true) (hq : jfl M idx ow nm ds) (hfin : fin = false) (hd : decode M.2.1 pc = .ok (.putfield idx, 3)) : jsnd E T M pc (o_putfr ci k) := by
  intro w0 wE p l e R s m args below meth c Q hc Cc K Rt hC hK hR L S H hI Hr locs ls hr hlo hz hl hw
  obtain ⟨hx, hb, hml, hown, hts, hkk, hret, hin, htab, hlk, hroom, hcel, hst, hb0⟩ := hc
  unfold o_putfr at hI
  split at hI
  next x r S' =>
    obtain ⟨a, fs, v, rfl, h2, h3, h4⟩ := hI
    have hfx := (hfit x)
    have hap := va_apart (own := M.1) hts hws ty0 hty hnm hkk.1 hcl
    obtain ⟨hlen, cell, q1, q2, q3, q4⟩ := ((hr.tr h2).2).ob hcl
    obtain ⟨hS, hfc, kC, hkC, hkind⟩ := hkk.1.1 ci _ hcl
    obtain ⟨cf, kf, fi, f, hi, hsl⟩ := hS k hk
    have hi : s.fieldFound? (U k).1 (U k).2.1 (U k).2.2.1 = some (cf, kf, fi, f) := hi
    have hb9 := (hr.tr h2).1
    have hlay := hts _ (hws _ (u_in_lay hk))
    unfold u_lay at hlay
    have hst9 := (u_facts hfc hkC (u_lays hts hws hk) hi).1
    rw [if_neg (by rw [hU]; exact fun z => by rw [hfin] at z; cases z)] at hlay
    have h6 := u_store (ty := ty) (v := jV (jR x)) hfc hkC hkind hlay hi (by rw [hU]; exact hds) hfx.1 hfx.2
    obtain ⟨ref, hq1, hq2⟩ := hq
    have hlink : (Cond.fieldLink M.1 idx ref nm ds).before args s = true := hts _ hq1
    have hi2 : s.fieldFound? ref nm ds = some (cf, kf, fi, f) := jfl.same hts hq2 _ (by rw [hU] at hi; exact hi)
    refine W.putK hx hb (f := f) ⟨hown, hlink, ⟨_, _, _, hi2⟩, hst9⟩ (by rw [q2]; exact h6) q1 q3 (by rw [hsl]; exact k2_hasslot (q4 k hk)) rfl rfl hd fun H1 e1 e2 e3 => ?_
    rw [hsl] at e1
    refine (hK _ _ _ _ h4).2 H1 _ ls (jput_rel hr hcl h2 hk q2 q3 q4 hap e1 e2 e3) (fun q hq => ?_) (by rw [e2]; exact hz) hl hw
    rcases List.mem_append.mp hq with h | h
    · exact hlo q h
    · rw [List.mem_singleton.mp h]
      exact hb9
  next => exact hI.elim
theorem sd_putfrF {ci k idx : Nat} {C ow nm ds : String} {U : u_T} {N : Nat} {fin : Bool} (hcl : jcl[ci]? = some (C, U, N)) (hws : ∀ w ∈ u_ws C U N, w ∈ lw_all) (hk : k < N) (hU : U k = (ow, nm, ds, fin)) (ty0 : Nat → FieldType) (hty : ∀ k, k < N → parseFieldDescriptor (U k).2.2.1 = some (ty0 k)) (hnm : ∀ a, a < N → ∀ b, b < N → a ≠ b → (U a).2.1 ≠ (U b).2.1) {ty : FieldType} (hds : parseFieldDescriptor ds = some ty) (hfit : ∀ x : Option Nat, narrow ty (va_rf x) = va_rf x ∧ fits ty (va_rf x) = true) (hq : jfl M idx ow nm ds) (hfin : fin = true) (hnm0 : M.2.2.2.2.1.1 = "<init>") (how : ow = M.1) (hd : decode M.2.1 pc = .ok (.putfield idx, 3)) : jsnd E T M pc (o_putfr ci k) := by
  intro w0 wE p l e R s m args below meth c Q hc Cc K Rt hC hK hR L S H hI Hr locs ls hr hlo hz hl hw
  obtain ⟨hx, hb, hml, hown, hts, hkk, hret, hin, htab, hlk, hroom, hcel, hst, hb0⟩ := hc
  unfold o_putfr at hI
  split at hI
  next x r S' =>
    obtain ⟨a, fs, v, rfl, h2, h3, h4⟩ := hI
    have hfx := (hfit x)
    have hap := va_apart (own := M.1) hts hws ty0 hty hnm hkk.1 hcl
    obtain ⟨hlen, cell, q1, q2, q3, q4⟩ := ((hr.tr h2).2).ob hcl
    obtain ⟨hS, hfc, kC, hkC, hkind⟩ := hkk.1.1 ci _ hcl
    obtain ⟨cf, kf, fi, f, hi, hsl⟩ := hS k hk
    have hi : s.fieldFound? (U k).1 (U k).2.1 (U k).2.2.1 = some (cf, kf, fi, f) := hi
    have hb9 := (hr.tr h2).1
    have hlay := hts _ (hws _ (u_in_lay hk))
    unfold u_lay at hlay
    have hst9 := (u_facts hfc hkC (u_lays hts hws hk) hi).1
    rw [if_pos (by rw [hU]; exact hfin)] at hlay
    have hcf : m.cls = cf := by
      obtain ⟨_, _, c', _, _, _, -, -, hf', -, -, -, hown2, -⟩ := Cond.laysFinal_spec hlay
      have e1 : c' = cf := by have := hi.symm.trans hf'; simp at this; exact this.1.symm
      rw [hU] at hown2
      have hown2 : s.vm.findClass ow = some c' := hown2
      rw [how] at hown2
      rw [← e1]; exact Option.some.inj (hown.symm.trans hown2)
    have h6 := u_fits (ty := ty) (v := jV (jR x)) hfc hkC hkind (Or.inr hlay) hi (by rw [hU]; exact hds) hfx.1 hfx.2
    obtain ⟨ref, hq1, hq2⟩ := hq
    have hlink : (Cond.fieldLink M.1 idx ref nm ds).before args s = true := hts _ hq1
    have hi2 : s.fieldFound? ref nm ds = some (cf, kf, fi, f) := jfl.same hts hq2 _ (by rw [hU] at hi; exact hi)
    refine W.putFinK hx hb hown hlink hi2 hst9 hcf (hin hnm0).1 (by rw [q2]; exact h6) q1 q3 (by rw [hsl]; exact k2_hasslot (q4 k hk)) rfl rfl hd fun H1 e1 e2 e3 => ?_
    rw [hsl] at e1
    refine (hK _ _ _ _ h4).2 H1 _ ls (jput_rel hr hcl h2 hk q2 q3 q4 hap e1 e2 e3) (fun q hq => ?_) (by rw [e2]; exact hz) hl hw
    rcases List.mem_append.mp hq with h | h
    · exact hlo q h
    · rw [List.mem_singleton.mp h]
      exact hb9
  next => exact hI.elim
theorem sd_putfrN {ci k idx : Nat} {C ow nm ds : String} {U : u_T} {N : Nat} {fin : Bool} (hcl : jcl[ci]? = some (C, U, N)) (hws : ∀ w ∈ u_ws C U N, w ∈ lw_all) (hk : k < N) (hU : U k = (ow, nm, ds, fin)) (ty0 : Nat → FieldType) (hty : ∀ k, k < N → parseFieldDescriptor (U k).2.2.1 = some (ty0 k)) (hnm : ∀ a, a < N → ∀ b, b < N → a ≠ b → (U a).2.1 ≠ (U b).2.1) {ty : FieldType} (hds : parseFieldDescriptor ds = some ty) (hfit : ∀ x : Option Nat, narrow ty (va_rf x) = va_rf x ∧ fits ty (va_rf x) = true) {host : String} (hq : Cond.fieldLinkNest M.1 idx ow nm ds host ∈ jnw) (hfin : fin = false) (hd : decode M.2.1 pc = .ok (.putfield idx, 3)) : jsnd E T M pc (o_putfr ci k) := by
  intro w0 wE p l e R s m args below meth c Q hc Cc K Rt hC hK hR L S H hI Hr locs ls hr hlo hz hl hw
  obtain ⟨hx, hb, hml, hown, hts, hkk, hret, hin, htab, hlk, hroom, hcel, hst, hb0⟩ := hc
  unfold o_putfr at hI
  split at hI
  next x r S' =>
    obtain ⟨a, fs, v, rfl, h2, h3, h4⟩ := hI
    have hfx := (hfit x)
    have hap := va_apart (own := M.1) hts hws ty0 hty hnm hkk.1 hcl
    obtain ⟨hlen, cell, q1, q2, q3, q4⟩ := ((hr.tr h2).2).ob hcl
    obtain ⟨hS, hfc, kC, hkC, hkind⟩ := hkk.1.1 ci _ hcl
    obtain ⟨cf, kf, fi, f, hi, hsl⟩ := hS k hk
    have hi : s.fieldFound? (U k).1 (U k).2.1 (U k).2.2.1 = some (cf, kf, fi, f) := hi
    have hb9 := (hr.tr h2).1
    have hlay := hts _ (hws _ (u_in_lay hk))
    unfold u_lay at hlay
    have hst9 := (u_facts hfc hkC (u_lays hts hws hk) hi).1
    rw [if_neg (by rw [hU]; exact fun z => by rw [hfin] at z; cases z)] at hlay
    have h6 := u_store (ty := ty) (v := jV (jR x)) hfc hkC hkind hlay hi (by rw [hU]; exact hds) hfx.1 hfx.2
    have hi2 : s.fieldFound? ow nm ds = some (cf, kf, fi, f) := by rw [hU] at hi; exact hi
    refine va_WputK hx hb (f := f) hown (va_Nw.use rfl (hkk.2.1 _ hq)) hi2 hst9 (by rw [q2]; exact h6) q1 q3 (by rw [hsl]; exact k2_hasslot (q4 k hk)) rfl rfl hd fun H1 e1 e2 e3 => ?_
    rw [hsl] at e1
    refine (hK _ _ _ _ h4).2 H1 _ ls (jput_rel hr hcl h2 hk q2 q3 q4 hap e1 e2 e3) (fun q hq => ?_) (by rw [e2]; exact hz) hl hw
    rcases List.mem_append.mp hq with h | h
    · exact hlo q h
    · rw [List.mem_singleton.mp h]
      exact hb9
  next => exact hI.elim
theorem sd_putfn {q : Int32 → Prop} {ci k idx : Nat} {C ow nm ds : String} {U : u_T} {N : Nat} {fin : Bool} (hcl : jcl[ci]? = some (C, U, N)) (hws : ∀ w ∈ u_ws C U N, w ∈ lw_all) (hk : k < N) (hU : U k = (ow, nm, ds, fin)) (ty0 : Nat → FieldType) (hty : ∀ k, k < N → parseFieldDescriptor (U k).2.2.1 = some (ty0 k)) (hnm : ∀ a, a < N → ∀ b, b < N → a ≠ b → (U a).2.1 ≠ (U b).2.1) {ty : FieldType} (hds : parseFieldDescriptor ds = some ty) (hfit : ∀ x : Int32, q x → narrow ty (.int x) = .int x ∧ fits ty (.int x) = true) (hq : jfl M idx ow nm ds) (hfin : fin = false) (hd : decode M.2.1 pc = .ok (.putfield idx, 3)) : jsnd E T M pc (o_putfn q ci k) := by
  intro w0 wE p l e R s m args below meth c Q hc Cc K Rt hC hK hR L S H hI Hr locs ls hr hlo hz hl hw
  obtain ⟨hx, hb, hml, hown, hts, hkk, hret, hin, htab, hlk, hroom, hcel, hst, hb0⟩ := hc
  unfold o_putfn at hI
  split at hI
  next x r S' =>
    obtain ⟨hfit9, a, fs, v, rfl, h2, h3, h4⟩ := hI
    have hfx := (hfit x hfit9)
    have hap := va_apart (own := M.1) hts hws ty0 hty hnm hkk.1 hcl
    obtain ⟨hlen, cell, q1, q2, q3, q4⟩ := ((hr.tr h2).2).ob hcl
    obtain ⟨hS, hfc, kC, hkC, hkind⟩ := hkk.1.1 ci _ hcl
    obtain ⟨cf, kf, fi, f, hi, hsl⟩ := hS k hk
    have hi : s.fieldFound? (U k).1 (U k).2.1 (U k).2.2.1 = some (cf, kf, fi, f) := hi
    have hb9 := (hr.tr h2).1
    have hlay := hts _ (hws _ (u_in_lay hk))
    unfold u_lay at hlay
    have hst9 := (u_facts hfc hkC (u_lays hts hws hk) hi).1
    rw [if_neg (by rw [hU]; exact fun z => by rw [hfin] at z; cases z)] at hlay
    have h6 := u_store (ty := ty) (v := jV (jI x)) hfc hkC hkind hlay hi (by rw [hU]; exact hds) hfx.1 hfx.2
    obtain ⟨ref, hq1, hq2⟩ := hq
    have hlink : (Cond.fieldLink M.1 idx ref nm ds).before args s = true := hts _ hq1
    have hi2 : s.fieldFound? ref nm ds = some (cf, kf, fi, f) := jfl.same hts hq2 _ (by rw [hU] at hi; exact hi)
    refine W.putK hx hb (f := f) ⟨hown, hlink, ⟨_, _, _, hi2⟩, hst9⟩ (by rw [q2]; exact h6) q1 q3 (by rw [hsl]; exact k2_hasslot (q4 k hk)) rfl rfl hd fun H1 e1 e2 e3 => ?_
    rw [hsl] at e1
    refine (hK _ _ _ _ h4).2 H1 _ ls (jput_rel hr hcl h2 hk q2 q3 q4 hap e1 e2 e3) (fun q hq => ?_) (by rw [e2]; exact hz) hl hw
    rcases List.mem_append.mp hq with h | h
    · exact hlo q h
    · rw [List.mem_singleton.mp h]
      exact hb9
  next => exact hI.elim
theorem sd_putfnF {q : Int32 → Prop} {ci k idx : Nat} {C ow nm ds : String} {U : u_T} {N : Nat} {fin : Bool} (hcl : jcl[ci]? = some (C, U, N)) (hws : ∀ w ∈ u_ws C U N, w ∈ lw_all) (hk : k < N) (hU : U k = (ow, nm, ds, fin)) (ty0 : Nat → FieldType) (hty : ∀ k, k < N → parseFieldDescriptor (U k).2.2.1 = some (ty0 k)) (hnm : ∀ a, a < N → ∀ b, b < N → a ≠ b → (U a).2.1 ≠ (U b).2.1) {ty : FieldType} (hds : parseFieldDescriptor ds = some ty) (hfit : ∀ x : Int32, q x → narrow ty (.int x) = .int x ∧ fits ty (.int x) = true) (hq : jfl M idx ow nm ds) (hfin : fin = true) (hnm0 : M.2.2.2.2.1.1 = "<init>") (how : ow = M.1) (hd : decode M.2.1 pc = .ok (.putfield idx, 3)) : jsnd E T M pc (o_putfn q ci k) := by
  intro w0 wE p l e R s m args below meth c Q hc Cc K Rt hC hK hR L S H hI Hr locs ls hr hlo hz hl hw
  obtain ⟨hx, hb, hml, hown, hts, hkk, hret, hin, htab, hlk, hroom, hcel, hst, hb0⟩ := hc
  unfold o_putfn at hI
  split at hI
  next x r S' =>
    obtain ⟨hfit9, a, fs, v, rfl, h2, h3, h4⟩ := hI
    have hfx := (hfit x hfit9)
    have hap := va_apart (own := M.1) hts hws ty0 hty hnm hkk.1 hcl
    obtain ⟨hlen, cell, q1, q2, q3, q4⟩ := ((hr.tr h2).2).ob hcl
    obtain ⟨hS, hfc, kC, hkC, hkind⟩ := hkk.1.1 ci _ hcl
    obtain ⟨cf, kf, fi, f, hi, hsl⟩ := hS k hk
    have hi : s.fieldFound? (U k).1 (U k).2.1 (U k).2.2.1 = some (cf, kf, fi, f) := hi
    have hb9 := (hr.tr h2).1
    have hlay := hts _ (hws _ (u_in_lay hk))
    unfold u_lay at hlay
    have hst9 := (u_facts hfc hkC (u_lays hts hws hk) hi).1
    rw [if_pos (by rw [hU]; exact hfin)] at hlay
    have hcf : m.cls = cf := by
      obtain ⟨_, _, c', _, _, _, -, -, hf', -, -, -, hown2, -⟩ := Cond.laysFinal_spec hlay
      have e1 : c' = cf := by have := hi.symm.trans hf'; simp at this; exact this.1.symm
      rw [hU] at hown2
      have hown2 : s.vm.findClass ow = some c' := hown2
      rw [how] at hown2
      rw [← e1]; exact Option.some.inj (hown.symm.trans hown2)
    have h6 := u_fits (ty := ty) (v := jV (jI x)) hfc hkC hkind (Or.inr hlay) hi (by rw [hU]; exact hds) hfx.1 hfx.2
    obtain ⟨ref, hq1, hq2⟩ := hq
    have hlink : (Cond.fieldLink M.1 idx ref nm ds).before args s = true := hts _ hq1
    have hi2 : s.fieldFound? ref nm ds = some (cf, kf, fi, f) := jfl.same hts hq2 _ (by rw [hU] at hi; exact hi)
    refine W.putFinK hx hb hown hlink hi2 hst9 hcf (hin hnm0).1 (by rw [q2]; exact h6) q1 q3 (by rw [hsl]; exact k2_hasslot (q4 k hk)) rfl rfl hd fun H1 e1 e2 e3 => ?_
    rw [hsl] at e1
    refine (hK _ _ _ _ h4).2 H1 _ ls (jput_rel hr hcl h2 hk q2 q3 q4 hap e1 e2 e3) (fun q hq => ?_) (by rw [e2]; exact hz) hl hw
    rcases List.mem_append.mp hq with h | h
    · exact hlo q h
    · rw [List.mem_singleton.mp h]
      exact hb9
  next => exact hI.elim
theorem sd_putfnN {q : Int32 → Prop} {ci k idx : Nat} {C ow nm ds : String} {U : u_T} {N : Nat} {fin : Bool} (hcl : jcl[ci]? = some (C, U, N)) (hws : ∀ w ∈ u_ws C U N, w ∈ lw_all) (hk : k < N) (hU : U k = (ow, nm, ds, fin)) (ty0 : Nat → FieldType) (hty : ∀ k, k < N → parseFieldDescriptor (U k).2.2.1 = some (ty0 k)) (hnm : ∀ a, a < N → ∀ b, b < N → a ≠ b → (U a).2.1 ≠ (U b).2.1) {ty : FieldType} (hds : parseFieldDescriptor ds = some ty) (hfit : ∀ x : Int32, q x → narrow ty (.int x) = .int x ∧ fits ty (.int x) = true) {host : String} (hq : Cond.fieldLinkNest M.1 idx ow nm ds host ∈ jnw) (hfin : fin = false) (hd : decode M.2.1 pc = .ok (.putfield idx, 3)) : jsnd E T M pc (o_putfn q ci k) := by
  intro w0 wE p l e R s m args below meth c Q hc Cc K Rt hC hK hR L S H hI Hr locs ls hr hlo hz hl hw
  obtain ⟨hx, hb, hml, hown, hts, hkk, hret, hin, htab, hlk, hroom, hcel, hst, hb0⟩ := hc
  unfold o_putfn at hI
  split at hI
  next x r S' =>
    obtain ⟨hfit9, a, fs, v, rfl, h2, h3, h4⟩ := hI
    have hfx := (hfit x hfit9)
    have hap := va_apart (own := M.1) hts hws ty0 hty hnm hkk.1 hcl
    obtain ⟨hlen, cell, q1, q2, q3, q4⟩ := ((hr.tr h2).2).ob hcl
    obtain ⟨hS, hfc, kC, hkC, hkind⟩ := hkk.1.1 ci _ hcl
    obtain ⟨cf, kf, fi, f, hi, hsl⟩ := hS k hk
    have hi : s.fieldFound? (U k).1 (U k).2.1 (U k).2.2.1 = some (cf, kf, fi, f) := hi
    have hb9 := (hr.tr h2).1
    have hlay := hts _ (hws _ (u_in_lay hk))
    unfold u_lay at hlay
    have hst9 := (u_facts hfc hkC (u_lays hts hws hk) hi).1
    rw [if_neg (by rw [hU]; exact fun z => by rw [hfin] at z; cases z)] at hlay
    have h6 := u_store (ty := ty) (v := jV (jI x)) hfc hkC hkind hlay hi (by rw [hU]; exact hds) hfx.1 hfx.2
    have hi2 : s.fieldFound? ow nm ds = some (cf, kf, fi, f) := by rw [hU] at hi; exact hi
    refine va_WputK hx hb (f := f) hown (va_Nw.use rfl (hkk.2.1 _ hq)) hi2 hst9 (by rw [q2]; exact h6) q1 q3 (by rw [hsl]; exact k2_hasslot (q4 k hk)) rfl rfl hd fun H1 e1 e2 e3 => ?_
    rw [hsl] at e1
    refine (hK _ _ _ _ h4).2 H1 _ ls (jput_rel hr hcl h2 hk q2 q3 q4 hap e1 e2 e3) (fun q hq => ?_) (by rw [e2]; exact hz) hl hw
    rcases List.mem_append.mp hq with h | h
    · exact hlo q h
    · rw [List.mem_singleton.mp h]
      exact hb9
  next => exact hI.elim
theorem sd_iald (hd : decode M.2.1 pc = .ok (.iaload, 1)) : jsnd E T M pc (o_iald 0) := by
  intro w0 wE p l e R s m args below meth c Q hc Cc K Rt hC hK hR L S H hI Hr locs ls hr hlo hz hl hw
  obtain ⟨hx, hb, hml, hown, hts, hkk, hret, hin, htab, hlk, hroom, hcel, hst, hb0⟩ := hc
  unfold o_iald at hI
  split at hI
  next i r S' =>
    obtain ⟨a, n, f, rfl, h2, h3, h4⟩ := hI
    obtain ⟨cell, q1, q2, q3, q4, q5⟩ := hr.rdA hkk h2 (k := 0) rfl
    have hlt : i.toNatClampNeg < n := Nat.not_le.mp fun q => h3 (Or.inr q)
    exact W.iald (v := .int (f i.toNatClampNeg)) hx hb q1 q2 q3 (by rw [q5]; show ¬ (i < 0 ∨ (arrV _ _ _).slots.size ≤ _); rw [arrV_size]; exact h3) (by rw [q5]; show (arrV _ _ _).slots[_]? = _; rw [arrV_read _ _ hlt]) rfl rfl hd ((hK _ _ _ _ h4).2 Hr locs ls hr hlo hz hl hw)
  next => exact hI.elim
theorem sd_bald (hd : decode M.2.1 pc = .ok (.baload, 1)) : jsnd E T M pc (o_iald 2) := by
  intro w0 wE p l e R s m args below meth c Q hc Cc K Rt hC hK hR L S H hI Hr locs ls hr hlo hz hl hw
  obtain ⟨hx, hb, hml, hown, hts, hkk, hret, hin, htab, hlk, hroom, hcel, hst, hb0⟩ := hc
  unfold o_iald at hI
  split at hI
  next i r S' =>
    obtain ⟨a, n, f, rfl, h2, h3, h4⟩ := hI
    obtain ⟨cell, q1, q2, q3, q4, q5⟩ := hr.rdA hkk h2 (k := 2) rfl
    have hlt : i.toNatClampNeg < n := Nat.not_le.mp fun q => h3 (Or.inr q)
    exact W.bald (v := .int (f i.toNatClampNeg)) hx hb q1 q2 q3 (by rw [q5]; show ¬ (i < 0 ∨ (arrV _ _ _).slots.size ≤ _); rw [arrV_size]; exact h3) (by rw [q5]; show (arrV _ _ _).slots[_]? = _; rw [arrV_read _ _ hlt]) rfl rfl hd ((hK _ _ _ _ h4).2 Hr locs ls hr hlo hz hl hw)
  next => exact hI.elim
theorem sd_lald (hd : decode M.2.1 pc = .ok (.laload, 1)) : jsnd E T M pc (o_lald 1) := by
  intro w0 wE p l e R s m args below meth c Q hc Cc K Rt hC hK hR L S H hI Hr locs ls hr hlo hz hl hw
  obtain ⟨hx, hb, hml, hown, hts, hkk, hret, hin, htab, hlk, hroom, hcel, hst, hb0⟩ := hc
  unfold o_lald at hI
  split at hI
  next i r S' =>
    obtain ⟨a, n, f, rfl, h2, h3, h4⟩ := hI
    obtain ⟨cell, q1, q2, q3, q4, q5⟩ := hr.rdA hkk h2 (k := 1) rfl
    have hlt : i.toNatClampNeg < n := Nat.not_le.mp fun q => h3 (Or.inr q)
    exact W.lald (v := .long (f i.toNatClampNeg)) hx hb q1 q2 q3 (by rw [q5]; show ¬ (i < 0 ∨ (arrV _ _ _).slots.size ≤ _); rw [arrV_size]; exact h3) (by rw [q5]; show (arrV _ _ _).slots[_]? = _; rw [arrV_read _ _ hlt]) rfl rfl hd ((hK _ _ _ _ h4).2 Hr locs ls hr hlo hz hl hw)
  next => exact hI.elim
theorem sd_rald {k : Nat} {C : String} (hk : ∀ dA : Nat → ClassId, (jtys dA)[k]? = some (dA k, .object C)) (hd : decode M.2.1 pc = .ok (.aaload, 1)) : jsnd E T M pc (o_rald k) := by
  intro w0 wE p l e R s m args below meth c Q hc Cc K Rt hC hK hR L S H hI Hr locs ls hr hlo hz hl hw
  obtain ⟨hx, hb, hml, hown, hts, hkk, hret, hin, htab, hlk, hroom, hcel, hst, hb0⟩ := hc
  unfold o_rald at hI
  split at hI
  next i r S' =>
    obtain ⟨a, n, f, rfl, h2, h3, h4⟩ := hI
    obtain ⟨cell, q1, q2, q3, q4, q5⟩ := hr.rdA hkk h2 (hk _)
    have hlt : i.toNatClampNeg < n := Nat.not_le.mp fun q => h3 (Or.inr q)
    exact W.aald (v := va_rf (f i.toNatClampNeg)) (ty := .object C) hx hb q1 q2 rfl q3 (by rw [q5]; show ¬ (i < 0 ∨ (arrV _ _ _).slots.size ≤ _); rw [arrV_size]; exact h3) (by rw [q5]; show (arrV _ _ _).slots[_]? = _; rw [arrV_read _ _ hlt]) rfl rfl hd ((hK _ _ _ _ h4).2 Hr locs ls hr hlo hz hl hw)
  next => exact hI.elim
theorem sd_alen {k : Nat} {ty : FieldType} (hk : ∀ dA : Nat → ClassId, (jtys dA)[k]? = some (dA k, ty)) (hd : decode M.2.1 pc = .ok (.arraylength, 1)) : jsnd E T M pc (o_alen k) := by
  intro w0 wE p l e R s m args below meth c Q hc Cc K Rt hC hK hR L S H hI Hr locs ls hr hlo hz hl hw
  obtain ⟨hx, hb, hml, hown, hts, hkk, hret, hin, htab, hlk, hroom, hcel, hst, hb0⟩ := hc
  unfold o_alen at hI
  split at hI
  next r S' =>
    obtain ⟨a, v, rfl, h2, h4⟩ := hI
    obtain ⟨cell, q1, q2, q3, q4, q5⟩ := hr.rdA hkk h2 (hk _)
    exact W.alen (n := nI v.1) hx hb q1 q2 (by
      rw [q5]
      obtain ⟨n, f | f | f | f | f⟩ := v <;> (show (arrV _ _ _).slots.size.toInt32 = _; rw [arrV_size]; rfl)) rfl rfl hd ((hK _ _ _ _ h4).2 Hr locs ls hr hlo hz hl hw)
  next => exact hI.elim
theorem sd_iast (hd : decode M.2.1 pc = .ok (.iastore, 1)) : jsnd E T M pc (o_iast (fun x => x) 0) := by
  intro w0 wE p l e R s m args below meth c Q hc Cc K Rt hC hK hR L S H hI Hr locs ls hr hlo hz hl hw
  obtain ⟨hx, hb, hml, hown, hts, hkk, hret, hin, htab, hlk, hroom, hcel, hst, hb0⟩ := hc
  unfold o_iast at hI
  split at hI
  next x i r S' =>
    obtain ⟨a, n, f, rfl, h2, h3, h4⟩ := hI
    have hb9 := (hr.tr h2).1
    refine W.iast hx hb (hr.tr h2).2 ((hkk.1.2 0 _ rfl).1 n (fun j => .int (f j))) (fun q => by cases q) (by show ¬ (i < 0 ∨ (arrV _ _ _).slots.size ≤ _); rw [arrV_size]; exact h3) rfl rfl hd fun H1 e1 e2 e3 => ?_
    refine (hK _ _ _ _ h4).2 H1 _ ls (hr.up h2 e2 e3 ?_) (fun q hq => ?_) (by rw [e2]; exact hz) hl hw
    · show H1[a]? = some (vp_cell _ _)
      rw [e1, vp_cell_i, vp_cell_i, arrV_store]
      congr 2
      funext q
      by_cases hq : q = i.toNatClampNeg
      · subst hq
        simp [updV, upd]
        try rfl
      · simp [updV, upd, hq]
    · rcases List.mem_append.mp hq with h | h
      · exact hlo q h
      · rw [List.mem_singleton.mp h]
        exact hb9
  next => exact hI.elim
theorem sd_bast (hd : decode M.2.1 pc = .ok (.bastore, 1)) : jsnd E T M pc (o_iast (fun x => x.toInt8.toInt32) 2) := by
  intro w0 wE p l e R s m args below meth c Q hc Cc K Rt hC hK hR L S H hI Hr locs ls hr hlo hz hl hw
  obtain ⟨hx, hb, hml, hown, hts, hkk, hret, hin, htab, hlk, hroom, hcel, hst, hb0⟩ := hc
  unfold o_iast at hI
  split at hI
  next x i r S' =>
    obtain ⟨a, n, f, rfl, h2, h3, h4⟩ := hI
    have hb9 := (hr.tr h2).1
    refine W.bast hx hb (hr.tr h2).2 ((hkk.1.2 2 _ rfl).1 n (fun j => .int (f j))) (fun q => by cases q) (by show ¬ (i < 0 ∨ (arrV _ _ _).slots.size ≤ _); rw [arrV_size]; exact h3) rfl rfl hd fun H1 e1 e2 e3 => ?_
    refine (hK _ _ _ _ h4).2 H1 _ ls (hr.up h2 e2 e3 ?_) (fun q hq => ?_) (by rw [e2]; exact hz) hl hw
    · show H1[a]? = some (vp_cell _ _)
      rw [e1, vp_cell_i, vp_cell_i, arrV_store]
      congr 2
      funext q
      by_cases hq : q = i.toNatClampNeg
      · subst hq
        simp [updV, upd]
        try rfl
      · simp [updV, upd, hq]
    · rcases List.mem_append.mp hq with h | h
      · exact hlo q h
      · rw [List.mem_singleton.mp h]
        exact hb9
  next => exact hI.elim
theorem sd_last (hd : decode M.2.1 pc = .ok (.lastore, 1)) : jsnd E T M pc (o_last 1) := by
  intro w0 wE p l e R s m args below meth c Q hc Cc K Rt hC hK hR L S H hI Hr locs ls hr hlo hz hl hw
  obtain ⟨hx, hb, hml, hown, hts, hkk, hret, hin, htab, hlk, hroom, hcel, hst, hb0⟩ := hc
  unfold o_last at hI
  split at hI
  next x i r S' =>
    obtain ⟨a, n, f, rfl, h2, h3, h4⟩ := hI
    have hb9 := (hr.tr h2).1
    refine W.last hx hb (hr.tr h2).2 ((hkk.1.2 1 _ rfl).1 n (fun j => .long (f j))) (fun q => by cases q) (by show ¬ (i < 0 ∨ (arrV _ _ _).slots.size ≤ _); rw [arrV_size]; exact h3) rfl rfl hd fun H1 e1 e2 e3 => ?_
    refine (hK _ _ _ _ h4).2 H1 _ ls (hr.up h2 e2 e3 ?_) (fun q hq => ?_) (by rw [e2]; exact hz) hl hw
    · show H1[a]? = some (vp_cell _ _)
      rw [e1, vp_cell_l, vp_cell_l, arrV_store]
      congr 2
      funext q
      by_cases hq : q = i.toNatClampNeg
      · subst hq
        simp [updV, vp_updL]
        try rfl
      · simp [updV, vp_updL, hq]
    · rcases List.mem_append.mp hq with h | h
      · exact hlo q h
      · rw [List.mem_singleton.mp h]
        exact hb9
  next => exact hI.elim
theorem jobO : ∀ c : Nat, c < jcl.length → ∃ r : vw_C, jcl[c]? = some r ∧ (Cond.castable r.1 "java/lang/Object" ∈ jnw) := by
  intro c h
  have h2 : (List.range jcl.length).all (fun c => match jcl[c]? with | some r => decide (Cond.castable r.1 "java/lang/Object" ∈ jnw) | none => false) = true := by decide +kernel
  have h3 := List.all_eq_true.mp h2 c (List.mem_range.mpr h)
  split at h3
  next r e => exact ⟨r, e, of_decide_eq_true h3⟩
  next => cases h3
theorem jobn.any {E : JE} {H : JHp} {Hr : Heap} {s : State} (hr : jrel E H Hr) (hkk : jkk E s) {b : Nat} (h : jobn H b) : va_Any "java/lang/Object" s Hr b := by
  obtain ⟨c, fs, h1, h2⟩ := h
  have hr0 : ∃ r, jcl[c]? = some r := by
    obtain ⟨b9, h1⟩ := h1
    cases b9 with
    | true =>
      rcases (hr.tr h1).2 with ⟨r, h3, -⟩ | ⟨h3, -⟩
      · exact ⟨r, h3⟩
      · have h3 : c = 999 := h3
        omega
    | false =>
      obtain ⟨r, h3, -⟩ := (hr.2.2.2 _ _ _ h1).2 rfl
      exact ⟨r, h3⟩
  obtain ⟨r, hr1⟩ := hr0
  obtain ⟨r2, h4, h5⟩ := jobO c (List.getElem?_eq_some_iff.mp hr1).1
  cases Option.some.inj (hr1.symm.trans h4)
  obtain ⟨cell, g1, g2, g3, -⟩ := hr.rdO h1 hr1
  obtain ⟨hS, hfc, kC, hkC, hkind⟩ := hkk.1.1 c _ hr1
  refine ⟨cell, g1, g3, ⟨kC, by rw [g2]; exact hkC⟩, fun comp hcomp => ?_⟩
  obtain ⟨c3, c4, hc3, hc4, hasg⟩ := Cond.castable_spec (va_Nw.use (A := #[]) rfl (hkk.2.1 _ h5))
  cases Option.some.inj (hc3.symm.trans hfc)
  cases Option.some.inj (hc4.symm.trans hcomp)
  rw [g2]
  exact hasg
theorem sd_rast (hd : decode M.2.1 pc = .ok (.aastore, 1)) : jsnd E T M pc (o_rast 3) := by
  intro w0 wE p l e R s m args below meth c Q hc Cc K Rt hC hK hR L S H hI Hr locs ls hr hlo hz hl hw
  obtain ⟨hx, hb, hml, hown, hts, hkk, hret, hin, htab, hlk, hroom, hcel, hst, hb0⟩ := hc
  unfold o_rast at hI
  split at hI
  next x i r S' =>
    obtain ⟨a, n, f, rfl, h2, h3, h5, h4⟩ := hI
    have hb9 := (hr.tr h2).1
    have hlo9 : ∀ q ∈ locs ++ [⟨a, i.toNatClampNeg⟩], jb0 E ≤ q.base := fun q hq => by
      rcases List.mem_append.mp hq with h | h
      · exact hlo q h
      · rw [List.mem_singleton.mp h]
        exact hb9
    have hfin : ∀ H1 : Heap, H1[a]? = some ((vp_cell (E.2.1 3) (aR n f)).setSlot i.toNatClampNeg (va_rf x)) → H1.size = Hr.size → (∀ q, q ≠ a → H1[q]? = Hr[q]?) → W p l e R s m args below meth c H1 (locs ++ [⟨a, i.toNatClampNeg⟩]) (H.2.2 - w0) (H.2.2 - w0) Q (F0 m (pc + 1) ls (S'.map jV)) := fun H1 e1 e2 e3 => by
      refine (hK _ _ _ _ h4).2 H1 _ ls (hr.up h2 e2 e3 ?_) hlo9 (by rw [e2]; exact hz) hl hw
      show H1[a]? = some (vp_cell _ _)
      rw [e1, vp_cell_q, vp_cell_q, arrV_store]
      congr 2
      funext q
      by_cases hq : q = i.toNatClampNeg
      · subst hq
        simp [updV, va_up]
      · simp [updV, va_up, hq]
    cases x with
    | none => exact va_WaastN (C := "java/lang/Object") hx hb (hr.tr h2).2 ((hkk.1.2 3 _ rfl).1 n (fun j => va_rf (f j))) (fun h => by cases h) (by show ¬ (i < 0 ∨ (arrV _ _ _).slots.size ≤ _); rw [arrV_size]; exact h3) rfl rfl hd hfin
    | some v =>
      have hlt : i.toNatClampNeg < n := Nat.not_le.mp fun q => h3 (Or.inr q)
      have h0 : ¬ i < 0 := fun q => h3 (Or.inl q)
      obtain ⟨cellV, g1, g3, ⟨kC, hkC⟩, hasg⟩ := jobn.any hr hkk (h5 v rfl)
      obtain ⟨kA, comp, k1, k2, k3, -⟩ := (hkk.1.2 3 _ rfl).2
      obtain ⟨kE, hkE, -⟩ := Vm.findClass_spec k3
      exact W.aast hx hb (hr.tr h2).2 (fun q h => by cases h) (fun h => by cases h) k1 k2 rfl hkE ⟨h0, by show _ < (arrV _ _ _).slots.size; rw [arrV_size]; exact hlt⟩ g1 (fun q h => by rw [h] at g3; cases g3) hkC (hasg _ k3) rfl rfl hd hfin
  next => exact hI.elim
theorem jroom {H H' : JHp} {w0 wE n : Nat} {R : Room} (hw : w0 ≤ H.2.2) (h1 : H'.2.2 = H.2.2 + 1 + n) (hE : H'.2.2 ≤ wE) (hcel : ∀ k, k ≤ wE - w0 → k ≤ R.cells ∧ k ≤ R.slots) : (H.2.2 - w0) + 1 ≤ R.cells ∧ (H.2.2 - w0) + n ≤ R.slots ∧ (H.2.2 - w0) + 1 ≤ H'.2.2 - w0 ∧ (H.2.2 - w0) + n ≤ H'.2.2 - w0 := by
  obtain ⟨h2, h3⟩ := hcel (H'.2.2 - w0) (by omega)
  omega
theorem sd_new {ci idx n : Nat} {C : String} {U : u_T} {fs : List JVal} (hcl : jcl[ci]? = some (C, U, n)) (hws : ∀ w ∈ u_ws C U n, w ∈ lw_all) (ty0 : Nat → FieldType) (hty : ∀ k, k < n → parseFieldDescriptor (U k).2.2.1 = some (ty0 k)) (hfs : fs.length = n ∧ ∀ j, j < n → defaultValue (ty0 j) = vp_V (fs.map jV) j) (hq : Cond.classLink M.1 idx C ∈ lw_all) (hq2 : Cond.instantiable C n ∈ lw_all) (hq3 : Cond.initialized C ∈ lw_all) (hd : decode M.2.1 pc = .ok (.new idx, 3)) : jsnd E T M pc (o_new ci fs n) := by
  intro w0 wE p l e R s m args below meth c Q hc Cc K Rt hC hK hR L S H hI Hr locs ls hr hlo hz hl hw
  obtain ⟨hx, hb, hml, hown, hts, hkk, hret, hin, htab, hlk, hroom, hcel, hst, hb0⟩ := hc
  unfold o_new at hI
  have hKn := hkk.1.1 ci _ hcl
  obtain ⟨r1, r2, r3, r4⟩ := jroom hw rfl (hK _ _ _ _ hI).1 hcel
  refine W.newc hx hb hown (hts _ hq) (hts _ hq2) (hts _ hq3) rfl hd r1 r2 fun cC kC f1 f2 f3 f4 => ?_
  have e0 : cC = E.1.1 ci := Option.some.inj (f1.symm.trans hKn.2.1)
  subst e0
  refine W.widen r3 r4 ?_
  have hg := (hK _ _ _ _ hI).2 (Hr.push { cls := E.1.1 ci, slots := kC.instanceTypes.map defaultValue, vm := .none }) locs ls (hr.new (Or.inl ⟨_, hcl, hfs.1, ?_⟩)) hlo (by rw [Array.size_push]; exact Nat.le_succ_of_le hz) hl (Nat.le_trans hw (jnew_room _ _ _))
  · rw [← hr.1] at hg
    exact hg
  · exact (u_born ty0 hts hws hKn f2 (by simp [blank]) hty).to hfs.2
theorem sd_newai (hq : Cond.arrayClass (newarray.typeOf .int) ∈ lw_all) (hd : decode M.2.1 pc = .ok (.newarray .int, 2)) : jsnd E T M pc (o_newai 0) := by
  intro w0 wE p l e R s m args below meth c Q hc Cc K Rt hC hK hR L S H hI Hr locs ls hr hlo hz hl hw
  obtain ⟨hx, hb, hml, hown, hts, hkk, hret, hin, htab, hlk, hroom, hcel, hst, hb0⟩ := hc
  unfold o_newai at hI
  split at hI
  next x S' =>
    obtain ⟨h1, h2, h4⟩ := hI
    obtain ⟨r1, r2, r3, r4⟩ := jroom hw rfl (hK _ _ _ _ h4).1 hcel
    refine W.newa hx hb (hts _ hq) rfl hd rfl h1 (Nat.le_trans (Nat.mul_le_mul_right _ h2) (Nat.le_of_ble_eq_true rfl)) r1 r2 fun cA kA comp f1 f2 f3 => ?_
    have e0 : cA = E.2.1 0 := Option.some.inj (f1.symm.trans (show s.vm.findClass _ = some _ from (hkk.1.2 0 _ rfl).2))
    subst e0
    refine W.widen r3 r4 ?_
    have hg := (hK _ _ _ _ h4).2 _ locs ls (hr.new (cell := { cls := E.2.1 0, slots := Array.replicate x.toNatClampNeg (defaultValue (newarray.typeOf .int)), vm := .none }) ?_) hlo (by rw [Array.size_push]; exact Nat.le_succ_of_le hz) hl (Nat.le_trans hw (jnew_room _ _ _))
    · rw [← hr.1] at hg
      exact hg
    · show (Hr.push _)[Hr.size]? = some (vp_cell _ _)
      rw [Array.getElem?_push_size, vp_cell_i]
      exact congrArg some (arrV_new _ _ _)
  next => exact hI.elim
theorem sd_newab (hq : Cond.arrayClass (newarray.typeOf .byte) ∈ lw_all) (hd : decode M.2.1 pc = .ok (.newarray .byte, 2)) : jsnd E T M pc (o_newai 2) := by
  intro w0 wE p l e R s m args below meth c Q hc Cc K Rt hC hK hR L S H hI Hr locs ls hr hlo hz hl hw
  obtain ⟨hx, hb, hml, hown, hts, hkk, hret, hin, htab, hlk, hroom, hcel, hst, hb0⟩ := hc
  unfold o_newai at hI
  split at hI
  next x S' =>
    obtain ⟨h1, h2, h4⟩ := hI
    obtain ⟨r1, r2, r3, r4⟩ := jroom hw rfl (hK _ _ _ _ h4).1 hcel
    refine W.newa hx hb (hts _ hq) rfl hd rfl h1 (Nat.le_trans (Nat.mul_le_mul_right _ h2) (Nat.le_of_ble_eq_true rfl)) r1 r2 fun cA kA comp f1 f2 f3 => ?_
    have e0 : cA = E.2.1 2 := Option.some.inj (f1.symm.trans (show s.vm.findClass _ = some _ from (hkk.1.2 2 _ rfl).2))
    subst e0
    refine W.widen r3 r4 ?_
    have hg := (hK _ _ _ _ h4).2 _ locs ls (hr.new (cell := { cls := E.2.1 2, slots := Array.replicate x.toNatClampNeg (defaultValue (newarray.typeOf .byte)), vm := .none }) ?_) hlo (by rw [Array.size_push]; exact Nat.le_succ_of_le hz) hl (Nat.le_trans hw (jnew_room _ _ _))
    · rw [← hr.1] at hg
      exact hg
    · show (Hr.push _)[Hr.size]? = some (vp_cell _ _)
      rw [Array.getElem?_push_size, vp_cell_i]
      exact congrArg some (arrV_new _ _ _)
  next => exact hI.elim
theorem sd_newal (hq : Cond.arrayClass (newarray.typeOf .long) ∈ lw_all) (hd : decode M.2.1 pc = .ok (.newarray .long, 2)) : jsnd E T M pc (o_newal 1) := by
  intro w0 wE p l e R s m args below meth c Q hc Cc K Rt hC hK hR L S H hI Hr locs ls hr hlo hz hl hw
  obtain ⟨hx, hb, hml, hown, hts, hkk, hret, hin, htab, hlk, hroom, hcel, hst, hb0⟩ := hc
  unfold o_newal at hI
  split at hI
  next x S' =>
    obtain ⟨h1, h2, h4⟩ := hI
    obtain ⟨r1, r2, r3, r4⟩ := jroom hw rfl (hK _ _ _ _ h4).1 hcel
    refine W.newa hx hb (hts _ hq) rfl hd rfl h1 (Nat.le_trans (Nat.mul_le_mul_right _ h2) (Nat.le_of_ble_eq_true rfl)) r1 r2 fun cA kA comp f1 f2 f3 => ?_
    have e0 : cA = E.2.1 1 := Option.some.inj (f1.symm.trans (show s.vm.findClass _ = some _ from (hkk.1.2 1 _ rfl).2))
    subst e0
    refine W.widen r3 r4 ?_
    have hg := (hK _ _ _ _ h4).2 _ locs ls (hr.new (cell := { cls := E.2.1 1, slots := Array.replicate x.toNatClampNeg (defaultValue (newarray.typeOf .long)), vm := .none }) ?_) hlo (by rw [Array.size_push]; exact Nat.le_succ_of_le hz) hl (Nat.le_trans hw (jnew_room _ _ _))
    · rw [← hr.1] at hg
      exact hg
    · show (Hr.push _)[Hr.size]? = some (vp_cell _ _)
      rw [Array.getElem?_push_size, vp_cell_l]
      exact congrArg some (arrV_new _ _ _)
  next => exact hI.elim
theorem sd_newar {k idx : Nat} {C : String} (hk : ∀ dA : Nat → ClassId, (jtys dA)[k]? = some (dA k, .object C)) (hao : ∀ {E : JE} {s : State}, jkk E s → va_AO C s) (hq : Cond.classLink M.1 idx C ∈ lw_all) (hd : decode M.2.1 pc = .ok (.anewarray idx, 3)) : jsnd E T M pc (o_newar k) := by
  intro w0 wE p l e R s m args below meth c Q hc Cc K Rt hC hK hR L S H hI Hr locs ls hr hlo hz hl hw
  obtain ⟨hx, hb, hml, hown, hts, hkk, hret, hin, htab, hlk, hroom, hcel, hst, hb0⟩ := hc
  unfold o_newar at hI
  split at hI
  next x S' =>
    obtain ⟨h1, h2, h4⟩ := hI
    obtain ⟨r1, r2, r3, r4⟩ := jroom hw rfl (hK _ _ _ _ h4).1 hcel
    refine W.anew hx hb hown (hts _ hq) (va_AO.use (hao hkk)) rfl hd rfl h1 (by omega) r1 r2 fun cA kA comp f1 f2 f3 f4 => ?_
    obtain ⟨kA2, comp2, g1, g2, g3, g4⟩ := (hkk.1.2 k _ (hk _)).2
    have e0 : cA = E.2.1 k := by
      first | exact Option.some.inj (f4.symm.trans g4) | exact Option.some.inj (f1.symm.trans g4)
    subst e0
    refine W.widen r3 r4 ?_
    have hg := (hK _ _ _ _ h4).2 _ locs ls (hr.new (cell := { cls := E.2.1 k, slots := Array.replicate x.toNatClampNeg .null, vm := .none }) ?_) hlo (by rw [Array.size_push]; exact Nat.le_succ_of_le hz) hl (Nat.le_trans hw (jnew_room _ _ _))
    · rw [← hr.1] at hg
      exact hg
    · show (Hr.push _)[Hr.size]? = some (vp_cell _ _)
      rw [Array.getElem?_push_size, vp_cell_q]
      exact congrArg some (arrV_new _ _ _)
  next => exact hI.elim
theorem jrecv {E : JE} {H : JHp} {Hr : Heap} {s : State} (hr : jrel E H Hr) (hkk : jkk E s) {a c : Nat} {fs : List JVal} {r : vw_C} (hcl : jcl[c]? = some r) (h : job H a c fs) : ∃ cell : Cell, Hr[a]? = some cell ∧ cell.vm.isStatics = false ∧ s.vm.findClass r.1 = some cell.cls :=
  by
  obtain ⟨cell, q1, q2, q3, -⟩ := hr.rdO h hcl
  exact ⟨cell, q1, q3, by rw [q2]; exact (hkk.1.1 c _ hcl).2.1⟩
theorem sd_cast {ci idx : Nat} {C nm : String} {U : u_T} {N : Nat} (hcl : jcl[ci]? = some (C, U, N)) (hq : Cond.classLink M.1 idx nm ∈ lw_all) (hq2 : Cond.castable C nm ∈ jnw) (hd : decode M.2.1 pc = .ok (.checkcast idx, 3)) : jsnd E T M pc (o_cast ci) := by
  intro w0 wE p l e R s m args below meth c Q hc Cc K Rt hC hK hR L S H hI Hr locs ls hr hlo hz hl hw
  obtain ⟨hx, hb, hml, hown, hts, hkk, hret, hin, htab, hlk, hroom, hcel, hst, hb0⟩ := hc
  unfold o_cast at hI
  split at hI
  next r S' =>
    obtain ⟨h1, h4⟩ := hI
    cases r with
    | none => exact lv_castN hx hb hd ((hK _ _ _ _ h4).2 Hr locs ls hr hlo hz hl hw)
    | some a =>
      obtain ⟨fs, h2⟩ := h1 a rfl
      exact va_castY hx hb hown (hts _ hq) (hkk.2.1 _ hq2) (jrecv hr hkk hcl h2) hd ((hK _ _ _ _ h4).2 Hr locs ls hr hlo hz hl hw)
  next => exact hI.elim
theorem sd_castS {ci idx : Nat} {C : String} {U : u_T} {N : Nat} (hcl : jcl[ci]? = some (C, U, N)) (hq : Cond.classLink M.1 idx C ∈ lw_all) (hd : decode M.2.1 pc = .ok (.checkcast idx, 3)) : jsnd E T M pc (o_cast ci) := by
  intro w0 wE p l e R s m args below meth c Q hc Cc K Rt hC hK hR L S H hI Hr locs ls hr hlo hz hl hw
  obtain ⟨hx, hb, hml, hown, hts, hkk, hret, hin, htab, hlk, hroom, hcel, hst, hb0⟩ := hc
  unfold o_cast at hI
  split at hI
  next r S' =>
    obtain ⟨h1, h4⟩ := hI
    cases r with
    | none => exact lv_castN hx hb hd ((hK _ _ _ _ h4).2 Hr locs ls hr hlo hz hl hw)
    | some a =>
      obtain ⟨fs, h2⟩ := h1 a rfl
      exact va_castS hx hb hown (hts _ hq) (hkk.1.1 ci _ hcl).2 (jrecv hr hkk hcl h2) hd ((hK _ _ _ _ h4).2 Hr locs ls hr hlo hz hl hw)
  next => exact hI.elim
theorem sd_casta {k idx : Nat} {nm : String} (hnm : ∀ {E : JE} {s : State}, jkk E s → s.vm.findClass nm = some (E.2.1 k)) (hq : Cond.classLink M.1 idx nm ∈ lw_all) (hd : decode M.2.1 pc = .ok (.checkcast idx, 3)) : jsnd E T M pc (o_casta k) := by
  intro w0 wE p l e R s m args below meth c Q hc Cc K Rt hC hK hR L S H hI Hr locs ls hr hlo hz hl hw
  obtain ⟨hx, hb, hml, hown, hts, hkk, hret, hin, htab, hlk, hroom, hcel, hst, hb0⟩ := hc
  unfold o_casta at hI
  split at hI
  next r S' =>
    obtain ⟨h1, h4⟩ := hI
    cases r with
    | none => exact lv_castN hx hb hd ((hK _ _ _ _ h4).2 Hr locs ls hr hlo hz hl hw)
    | some a =>
      obtain ⟨v, h2⟩ := h1 a rfl
      exact va_castA hx hb hown (hts _ hq) (jat.PA (hr.tr h2).2) 0 rfl (hnm hkk) hd ((hK _ _ _ _ h4).2 Hr locs ls hr hlo hz hl hw)
  next => exact hI.elim
theorem sd_inst {ci idx : Nat} {C : String} {U : u_T} {N : Nat} (hcl : jcl[ci]? = some (C, U, N)) (hq : Cond.classLink M.1 idx C ∈ lw_all) (hd : decode M.2.1 pc = .ok (.instanceof idx, 3)) : jsnd E T M pc (o_inst ci) := by
  intro w0 wE p l e R s m args below meth c Q hc Cc K Rt hC hK hR L S H hI Hr locs ls hr hlo hz hl hw
  obtain ⟨hx, hb, hml, hown, hts, hkk, hret, hin, htab, hlk, hroom, hcel, hst, hb0⟩ := hc
  unfold o_inst at hI
  split at hI
  next r S' =>
    obtain ⟨a, fs, rfl, h2, h4⟩ := hI
    exact va_instE hx hb hown (hts _ hq) (jrecv hr hkk hcl h2) hd ((hK _ _ _ _ h4).2 Hr locs ls hr hlo hz hl hw)
  next => exact hI.elim
theorem sd_objinit {idx : Nat} (hq : Cond.methodLink M.1 idx Lib.objectInit ∈ lw_all) (hq2 : Cond.instanceMethod Lib.objectInit ∈ lw_all) (hq3 : Cond.code Lib.objectInit ⟨#[0xb1]⟩ 1 none ∈ lw_all) (hdep : 1 ≤ M.2.2.2.2.2.2) (hd : decode M.2.1 pc = .ok (.invokespecial idx, 3)) : jsnd E T M pc o_objinit := by
  intro w0 wE p l e R s m args below meth c Q hc Cc K Rt hC hK hR L S H hI Hr locs ls hr hlo hz hl hw
  obtain ⟨hx, hb, hml, hown, hts, hkk, hret, hin, htab, hlk, hroom, hcel, hst, hb0⟩ := hc
  unfold o_objinit at hI
  split at hI
  next r S' =>
    cases eb : Nat.ble (jWs S') 8 with
    | false => rw [eb] at hI; exact hI.elim
    | true =>
      rw [eb] at hI
      obtain ⟨a, rfl, h4⟩ := hI
      have hs8 := Nat.le_of_ble_eq_true eb
      refine W.objInit hx hb hown (hts _ hq) (hts _ hq2) (hts _ hq3) rfl (by rw [hml]; exact hl.2.1) rfl hd (Nat.le_trans hdep hroom.1) ?_ ((hK _ _ _ _ h4).2 Hr locs ls hr hlo hz hl hw)
      show 2 * 0 + ((S'.map jV).map fun v => v.category).sum + 12 ≤ R.locals
      rw [jWs_cat]
      have := hroom.2
      have := jlc_one hdep
      omega
  next => exact hI.elim
theorem sd_getC {idx : Nat} (hq : Cond.methodLink M.1 idx ⟨"java/lang/Object", "getClass", "()Ljava/lang/Class;"⟩ ∈ lw_all) (hq2 : Cond.selects "[Ljava/lang/Object;" ⟨"java/lang/Object", "getClass", "()Ljava/lang/Class;"⟩ ⟨"java/lang/Object", "getClass", "()Ljava/lang/Class;"⟩ ∈ lw_all) (hq3 : Cond.instanceMethod ⟨"java/lang/Object", "getClass", "()Ljava/lang/Class;"⟩ ∈ lw_all) (hq4 : Cond.native ⟨"java/lang/Object", "getClass", "()Ljava/lang/Class;"⟩ ∈ lw_all) (hdep : 1 ≤ M.2.2.2.2.2.2) (hd : decode M.2.1 pc = .ok (.invokevirtual idx, 3)) : jsnd E T M pc (o_getC 3 (E.2.2.2.1 1)) := by
  intro w0 wE p l e R s m args below meth c Q hc Cc K Rt hC hK hR L S H hI Hr locs ls hr hlo hz hl hw
  obtain ⟨hx, hb, hml, hown, hts, hkk, hret, hin, htab, hlk, hroom, hcel, hst, hb0⟩ := hc
  unfold o_getC at hI
  split at hI
  next r S' =>
    cases eb : Nat.ble (jWs S') 8 with
    | false => rw [eb] at hI; exact hI.elim
    | true =>
      rw [eb] at hI
      obtain ⟨a, v, rfl, h2, h4⟩ := hI
      have hs8 := Nat.le_of_ble_eq_true eb
      have hcell : Hr[a]? = some (vp_cell (E.2.1 3) v) := (hr.tr h2).2
      have hvm0 : (vp_cell (E.2.1 3) v).vm.isStatics = false := by
        obtain ⟨n, f | f | f | f | f⟩ := v <;> rfl
      have hcl0 : (vp_cell (E.2.1 3) v).cls = E.2.1 3 := by
        obtain ⟨n, f | f | f | f | f⟩ := v <;> rfl
      refine va_getC hx hb (hml.trans hl.2.1.symm) hown (hts _ hq) (va_Dc.use hkk.2.2.2.2.2.2.2.2.2.1) (hts _ hq2) (hts _ hq3) (hts _ hq4) hkk.2.2.2.2.2.2.2.2.1 ⟨_, hcell, hvm0, by rw [hcl0]; exact va_nmO (hkk.1.2 3 _ rfl).2 rfl⟩ (Nat.le_trans hdep hroom.1) ?_ hd ((hK _ _ _ _ h4).2 Hr locs ls hr hlo hz hl hw)
      rw [jWs_cat]
      have := hroom.2
      have := jlc_one hdep
      omega
  next => exact hI.elim
theorem jstat {v : JVal} {idx : Nat} {ow nm ds : String} (hz9 : ∀ s, jkk E s → va_Z ow nm ds (jV v) (fun a => jb0 E ≤ a) s E.2.2.1.heap) (hq : jfl M idx ow nm ds) (hd : decode M.2.1 pc = .ok (.getstatic idx, 3)) : jsnd E T M pc (o_push v 3) := by
  intro w0 wE p l e R s m args below meth c Q hc Cc K Rt hC hK hR L S H hI Hr locs ls hr hlo hz hl hw
  obtain ⟨hx, hb, hml, hown, hts, hkk, hret, hin, htab, hlk, hroom, hcel, hst, hb0⟩ := hc
  unfold o_push at hI
  obtain ⟨ref, hq1, hq2⟩ := hq
  have hZ : va_Z ow nm ds (jV v) (fun a => jb0 E ≤ a) s s.heap := (hz9 s hkk).kept (fun a h1 h2 => hst.2 a h1)
  refine va_gets hx hb hZ (H := Hr) (locs := locs) ⟨hz, fun q h1 h2 => ?_, hlo⟩ hown (hts _ hq1) (jfl.same hts hq2) hd ((hK _ _ _ _ hI).2 Hr locs ls hr hlo hz hl hw)
  have h3 : q < E.2.2.1.heap.size := Nat.lt_of_not_le h2
  rw [hr.2.2.1 q h3, hst.2 q h3]
theorem sd_stati {idx : Nat} {ow nm ds : String} {x : Int32} (hs : (ow, nm, ds, x) ∈ jsi) (hq : jfl M idx ow nm ds) (hd : decode M.2.1 pc = .ok (.getstatic idx, 3)) : jsnd E T M pc (o_push (jI x) 3) :=
  jstat (fun _ h => h.2.2.2.2.1 _ hs) hq hd
theorem sd_statr {idx k : Nat} {ow nm ds : String} (hs : (ow, nm, ds, k) ∈ jsr) (hq : jfl M idx ow nm ds) (hd : decode M.2.1 pc = .ok (.getstatic idx, 3)) : jsnd E T M pc (o_push (jR (some (E.2.2.2.1 k))) 3) :=
  jstat (fun _ h => h.2.2.2.2.2.1 _ hs) hq hd
theorem sd_statq {idx k : Nat} {ow nm ds : String} (hs : (ow, nm, ds, k) ∈ jsq) (hq : jfl M idx ow nm ds) (hd : decode M.2.1 pc = .ok (.getstatic idx, 3)) : jsnd E T M pc (o_push (jR (E.2.2.2.2 k)) 3) :=
  jstat (fun _ h => h.2.2.2.2.2.2.1 _ hs) hq hd
theorem sd_ldcS {idx k : Nat} {tx : String} (hs : (M.1, idx, tx, k) ∈ jstr) (hd : decode M.2.1 pc = .ok (.ldc idx, 2)) : jsnd E T M pc (o_push (jR (some (E.2.2.2.1 k))) 2) := by
  intro w0 wE p l e R s m args below meth c Q hc Cc K Rt hC hK hR L S H hI Hr locs ls hr hlo hz hl hw
  obtain ⟨hx, hb, hml, hown, hts, hkk, hret, hin, htab, hlk, hroom, hcel, hst, hb0⟩ := hc
  unfold o_push at hI
  exact va_ldcS hx hb hown (hkk.2.2.2.2.2.2.2.1 _ hs) hd ((hK _ _ _ _ hI).2 Hr locs ls hr hlo hz hl hw)
theorem sd_ldcM {idx : Nat} (hq : Cond.classLink M.1 idx "[Ljava/lang/Object;" ∈ lw_all) (hd : decode M.2.1 pc = .ok (.ldc idx, 2)) : jsnd E T M pc (o_push (jR (some (E.2.2.2.1 1))) 2) := by
  intro w0 wE p l e R s m args below meth c Q hc Cc K Rt hC hK hR L S H hI Hr locs ls hr hlo hz hl hw
  obtain ⟨hx, hb, hml, hown, hts, hkk, hret, hin, htab, hlk, hroom, hcel, hst, hb0⟩ := hc
  unfold o_push at hI
  exact va_ldcM hx hb hown (hts _ hq) hkk.2.2.2.2.2.2.2.2.1 hd ((hK _ _ _ _ hI).2 Hr locs ls hr hlo hz hl hw)
theorem sd_athrow {ci : Nat} (h9 : M.2.2.2.2.2.1 = []) (hne : ci ≠ jlam) (hd : decode M.2.1 pc = .ok (.athrow, 1)) : jsnd E T M pc (o_athrow ci) := by
  intro w0 wE p l e R s m args below meth c Q hc Cc K Rt hC hK hR L S H hI Hr locs ls hr hlo hz hl hw
  obtain ⟨hx, hb, hml, hown, hts, hkk, hret, hin, htab, hlk, hroom, hcel, hst, hb0⟩ := hc
  unfold o_athrow at hI
  split at hI
  next r S' =>
    obtain ⟨q, fs, rfl, h2, h4⟩ := hI
    exact vx_athrow (rest := S'.map jV) hx hb hd ((hR _ _ h4).2 Hr locs ls hr hlo hz hw pc (S'.map jV) ci fs (fun x hx9 => by rw [htab, h9] at hx9; cases hx9) h2 hne)
  next => exact hI.elim
end SDH
