/-! SOUNDNESS: switches by one check; what is left of the lambda -/
theorem jchar_fit {x : Int32} (h : jchar x) : narrow .char (.int x) = .int x ∧ fits .char (.int x) = true := by
  have h : (x.toUInt32 % 65536).toInt32 = x := h
  have h1 := pk_nc x
  have h2 := pk_fc x
  rw [h] at h1 h2
  exact ⟨h1, h2⟩
theorem jnc_X5_X9 {E : JE} : ∀ s, jkk E s → va_Nc "UnheardBells$Refused" "UnheardBells$Wrong" s := fun _ h => h.2.2.2.2.2.2.2.2.2.2.2.1
/-! the lambda's made class -/
section LAM
def jLamF : ClassFile := (jσ.file "UnheardBells").getD { minorVersion := 0, majorVersion := 0, constantPool := #[], accessFlags := 0, thisClass := 0, superClass := 0, interfaces := #[], fields := #[], methods := #[], attributes := #[] }
def jFw : Method := ((layoutMethods jLamF).bind (·[1]?)).getD default
def jLaid : Array Field × Array FieldType × Array FieldType := (layoutFields jLamF 0).getD (#[], #[], #[])
def jFwB : ByteArray := ⟨#[0x2a, 0xb4, 0x00, 0x0f, 0x2b, 0xb8, 0x00, 0x17, 0xac]⟩
theorem jfw0 : decode jFwB 0 = .ok (.aload_n 0, 1) := by decide +kernel
theorem jfw1 : decode jFwB 1 = .ok (.getfield 15, 3) := by decide +kernel
theorem jfw4 : decode jFwB 4 = .ok (.aload_n 1, 1) := by decide +kernel
theorem jfw5 : decode jFwB 5 = .ok (.invokestatic 23, 3) := by decide +kernel
theorem jfw8 : decode jFwB 8 = .ok (.ireturn, 1) := by decide +kernel
theorem jLamF_is : jσ.file "UnheardBells" = some jLamF := by
  have h : (jσ.file "UnheardBells").isSome = true := by decide +kernel
  obtain ⟨x, hx⟩ := Option.isSome_iff_exists.mp h
  simp [jLamF, hx]
theorem jFw_is : ∀ ms, layoutMethods jLamF = some ms → ms[1]? = some jFw := by
  intro ms hms
  have h : ((layoutMethods jLamF).bind (·[1]?)).isSome = true := by decide +kernel
  obtain ⟨x, hx⟩ := Option.isSome_iff_exists.mp h
  have hf : jFw = x := by simp [jFw, hx]
  rw [hms] at hx
  rw [hf]
  exact hx
theorem jLaid_is : layoutFields jLamF 0 = some jLaid := by
  have h : (layoutFields jLamF 0).isSome = true := by decide +kernel
  obtain ⟨x, hx⟩ := Option.isSome_iff_exists.mp h
  simp [jLaid, hx]
theorem jFw_code : (jFw.code.map fun c => (c.code.data, c.maxLocals)) = some (jFwB.data, 2) := by decide +kernel
theorem jFw_flags : (jFw.accessFlags, jFw.name, jFw.sig.returnType) = (0x0001, "of", some FieldType.int) := by decide +kernel
theorem jDM : jLamF.constantPool[23]? = some (.methodref 19 22) ∧ jLamF.constantPool.className? 19 = some "UnheardBells" ∧ jLamF.constantPool.nameAndType? 22 = some ("lambda$new$0", "(ILUnheardBells$Rope;)I") := by decide +kernel
theorem jDC : jLamF.constantPool[19]? = some (.class_ 18) ∧ jLamF.constantPool.string? 18 = some "UnheardBells" ∧ 19 ≠ jLamF.thisClass := by decide +kernel
theorem jDF : jLamF.constantPool[15]? = some (.fieldref 2 14) ∧ jLamF.constantPool.nameAndType? 14 = some ("arg$1", "I") ∧ jLaid.1.findIdx? (·.name == "arg$1") = some 0 ∧ (jLaid.1[0]?).map (fun f => (f.isStatic, f.slot)) = some (false, 0) := by decide +kernel
theorem jLaid_types : jLaid.2.1 = #[.int] := by decide +kernel
theorem jmade {vm : Vm} {d c : ClassId} {dk : Class} (hd : vm.classes[d]? = some dk) (hname : dk.name = "UnheardBells") (h : Lambda.isMade { classPath := fun _ => none } vm d jσ c = true)
    (hO : ∀ o ok, vm.findClass "java/lang/Object" = some o → vm.classes[o]? = some ok → ok.instanceTypes.size = 0) :
    ∃ (k tk : Class) (file : ClassFile) (methk : Method) (ck : Code) (toy iface : ClassId) (t found : MethodId) (g0 : Field),
      vm.classes[c]? = some k ∧ k.name = "UnheardBells$$Lambda" ∧ k.cf = some file ∧ file.constantPool = jLamF.constantPool ∧
      vm.method? ⟨c, 1⟩ = some methk ∧ methk.code = some ck ∧ ck.code = jFwB ∧ ck.maxLocals = 2 ∧ methk.locks = false ∧ methk.accessFlags = 0x0001 ∧ methk.sig.returnType = some .int ∧
      vm.findClass "UnheardBells" = some toy ∧ vm.classes[toy]? = some tk ∧ ((methodIn toy "lambda$new$0" "(ILUnheardBells$Rope;)I" tk.isInterface none).ask { classPath := fun _ => none } vm).1 = .ok t ∧
      vm.methodReady c 23 t ∧ vm.classReady c 19 toy ∧ vm.fieldReady c 15 c g0 ∧ g0.isStatic = false ∧ g0.slot = 0 ∧ k.instanceTypes = #[.int] ∧ k.kind = .ordinary ∧
      vm.findClass "UnheardBells$Count" = some iface ∧ ((methodIn iface "of" jσ.sam.toString true none).ask { classPath := fun _ => none } vm).1 = .ok found ∧ selectMethod {} vm c found = .method ⟨c, 1⟩ := by
  obtain ⟨dk', k, ok, tk, file, cf, object, iface, toy, lay, methods, target, found, hd', hk, hfile, hcf, hobj, hif, hok, hlay, hms, ht, htk, hg, hfo, hrec, -, -, -, hitf, hpool, hmeth, hfields, hty, hres, hsel⟩ := Lambda.isMade_spec h
  cases hd.symm.trans hd'
  rw [hname, jLamF_is] at hcf
  cases hcf
  have hok0 : ok.instanceTypes = #[] := Array.eq_empty_of_size_eq_zero (hO object ok hobj hok)
  rw [hO object ok hobj hok, jLaid_is] at hlay
  cases hlay
  obtain ⟨b, hb, hsame⟩ := hmeth 1 jFw (jFw_is methods hms)
  simp only [Lambda.sameMethod, Bool.and_eq_true, decide_eq_true_eq] at hsame
  obtain ⟨⟨hn, -, hsig, hfl⟩, hcode⟩ := hsame
  have fc := jFw_code
  have ff := jFw_flags
  simp only [Prod.mk.injEq] at ff
  obtain ⟨g0, hg0, hp0⟩ := Option.map_eq_some_iff.mp jDF.2.2.2
  simp only [Prod.mk.injEq] at hp0
  cases hfc : jFw.code with
  | none => rw [hfc] at fc; cases fc
  | some x =>
    cases hbc : b.code with
    | none => simp [hfc, hbc] at hcode
    | some y =>
      simp only [hfc, hbc, Bool.and_eq_true, decide_eq_true_eq] at hcode
      simp only [hfc, Option.map_some, Option.some.injEq, Prod.mk.injEq] at fc
      refine ⟨k, tk, file, b, y, toy, iface, target, found, g0, hk, by rw [hrec.1, hname]; rfl, hfile, hpool.2.1, by simp [Vm.method?, hk, hb], hbc, ?_, by rw [← hcode.1.1.1.1.2.1]; exact fc.2, ?_, by rw [← hfl]; exact ff.1, by rw [← hsig]; exact ff.2.2, ht, htk, hg,
        ⟨k, hk, hres 23 _ (Lambda.resolvedOf_method jDM.1 jDM.2.1 ht htk jDM.2.2 hg)⟩, ⟨k, hk, hres 19 _ (Lambda.resolvedOf_class jDC.1 jDC.2.2 jDC.2.1 ht)⟩,
        ⟨k, 0, k, hk, hres 15 _ (Lambda.resolvedOf_field jDF.1 jDF.2.1 jDF.2.2.1), hk, hfields 0 _ hg0⟩, hp0.1, hp0.2, by rw [hty.1, hok0, jLaid_types]; rfl, hrec.2.1, hif, hfo, hsel⟩
      · rw [← hcode.1.1.1.1.2.2]
        exact ByteArray.ext fc.1
      · simp [Method.locks, Method.isSynchronized, ← hfl, ff.1, hasFlag, Acc.synchronized]
theorem jam {α β : Type} (arr : Array α) (F : α → α → α → Option β) {b : β} (h : (match arr with | #[a0, a1, a2] => F a0 a1 a2 | _ => none) = some b) : ∃ a0 a1 a2, F a0 a1 a2 = some b := by
  rcases arr with ⟨l⟩
  rcases l with _ | ⟨x0, _ | ⟨x1, _ | ⟨x2, _ | ⟨x3, l⟩⟩⟩⟩
  · exact absurd (show (none : Option β) = some b from h) (fun q => nomatch q)
  · exact absurd (show (none : Option β) = some b from h) (fun q => nomatch q)
  · exact absurd (show (none : Option β) = some b from h) (fun q => nomatch q)
  · exact ⟨x0, x1, x2, h⟩
  · exact absurd (show (none : Option β) = some b from h) (fun q => nomatch q)
theorem jam6 {β : Type} (w : Option CpInfo) (F : Nat → Option β) {b : β} (h : (match w with | some (.methodHandle 6 r) => F r | _ => none) = some b) : ∃ r, F r = some b := by
  split at h
  · next r => exact ⟨r, h⟩
  · cases h
theorem jamT {β : Type} (w : Option CpInfo) (F : Nat → Option β) {b : β} (h : (match w with | some (.methodType r) => F r | _ => none) = some b) : ∃ r, F r = some b := by
  split at h
  · next r => exact ⟨r, h⟩
  · cases h
theorem jamH {β : Type} (w : Option CpInfo) (F : Nat → Nat → Option β) {b : β} (h : (match w with | some (.methodHandle k r) => F k r | _ => none) = some b) : ∃ k r, F k r = some b := by
  split at h
  · next k r => exact ⟨k, r, h⟩
  · cases h
theorem jamO {β : Type} (w : Option FieldType) (F : String → Option β) {b : β} (h : (match w with | some (.object r) => F r | _ => none) = some b) : ∃ r, F r = some b := by
  split at h
  · next r => exact ⟨r, h⟩
  · cases h
theorem jshape {cf : ClassFile} (h : Lambda.shapeOf? cf 42 = some jσ) : ∃ bsm nt name desc sig, cf.constantPool[42]? = some (.invokeDynamic bsm nt) ∧ cf.constantPool.nameAndType? nt = some (name, desc) ∧ parseLongMethodDescriptor desc = some sig ∧ sig.parameters = [.int] := by
  unfold Lambda.shapeOf? at h
  cases e0 : cf.constantPool[42]? with
  | none => rw [e0] at h; exact absurd (show (none : Option Lambda.Shape) = some jσ from h) (fun q => nomatch q)
  | some w =>
    rw [e0] at h
    cases w with
    | invokeDynamic b nt =>
      obtain ⟨en, -, h⟩ := Option.bind_eq_some_iff.mp h
      obtain ⟨bm, -, h⟩ := Option.bind_eq_some_iff.mp h
      obtain ⟨r, h⟩ := jam6 _ _ h
      obtain ⟨-, -, h⟩ := Option.bind_eq_some_iff.mp h
      have hg : ∃ x0 x1 x2, bm.bootstrapArguments = #[x0, x1, x2] := by
        rcases e2 : bm.bootstrapArguments with ⟨l⟩
        rw [e2] at h
        rcases l with _ | ⟨x0, _ | ⟨x1, _ | ⟨x2, _ | ⟨x3, l⟩⟩⟩⟩
        · exact absurd (show (none : Option Lambda.Shape) = some jσ from h) (fun q => nomatch q)
        · exact absurd (show (none : Option Lambda.Shape) = some jσ from h) (fun q => nomatch q)
        · exact absurd (show (none : Option Lambda.Shape) = some jσ from h) (fun q => nomatch q)
        · exact ⟨x0, x1, x2, rfl⟩
        · exact absurd (show (none : Option Lambda.Shape) = some jσ from h) (fun q => nomatch q)
      obtain ⟨x0, x1, x2, e2⟩ := hg
      rw [e2] at h
      obtain ⟨d0, h⟩ := jamT (cf.constantPool[x0]?) _ h
      obtain ⟨kd, r1, h⟩ := jamH _ _ h
      obtain ⟨d2, h⟩ := jamT _ _ h
      obtain ⟨⟨name, desc⟩, hn, h⟩ := Option.bind_eq_some_iff.mp h
      obtain ⟨site, hs, h⟩ := Option.bind_eq_some_iff.mp h
      obtain ⟨ifc, h⟩ := jamO _ _ h
      obtain ⟨⟨q0, q1, q2, q3⟩, -, h⟩ := Option.bind_eq_some_iff.mp h
      obtain ⟨t0, -, h⟩ := Option.bind_eq_some_iff.mp h
      obtain ⟨t1, -, h⟩ := Option.bind_eq_some_iff.mp h
      obtain ⟨t2, -, h⟩ := Option.bind_eq_some_iff.mp h
      obtain ⟨t3, -, h⟩ := Option.bind_eq_some_iff.mp h
      obtain ⟨t4, -, h⟩ := Option.bind_eq_some_iff.mp h
      exact ⟨b, nt, name, desc, site, rfl, hn, parseLong_of_parse hs, congrArg Lambda.Shape.captured (Option.some.inj h)⟩
    | _ => exact absurd (show (none : Option Lambda.Shape) = some jσ from h) (fun q => nomatch q)
end LAM
section SDW
variable {E : JE} {T : Nat → JI} {M : JM} {pc : Nat}
theorem sd_tsw (n : Nat) {dflt lo hi : Int} {offs : Array Int} {len : Nat} {l : List (Int32 × Nat)} {d : Nat} (h1 : (decide ((pc : Int) + dflt = (d : Int)) && l.all (fun q => decide (lo ≤ q.1.toInt) && decide (q.1.toInt ≤ hi) && decide (offs[(q.1.toInt - lo).toNat]? = some ((q.2 : Int) - pc)))) = true) (h2 : (decide (hi + 1 = lo + n) && (List.range n).all (fun i => l.any (fun q => decide (q.1.toInt = lo + i)))) = true) (hd : decode M.2.1 pc = .ok (.tableswitch dflt lo hi offs, len)) : jsnd E T M pc (o_switch l d) := by
  simp only [Bool.and_eq_true, decide_eq_true_eq] at h1 h2
  refine sd_tswitch h1.1 (fun q hq => ?_) (fun x hx => ?_) hd
  · have h3 := List.all_eq_true.mp h1.2 q hq
    simp only [Bool.and_eq_true, decide_eq_true_eq] at h3
    exact ⟨by omega, by omega, _, h3.2, by omega⟩
  · by_cases hr : x.toInt < lo ∨ hi < x.toInt
    · exact hr
    · exfalso
      have h3 := List.all_eq_true.mp h2.2 (x.toInt - lo).toNat (List.mem_range.mpr (by omega))
      obtain ⟨q, hq, h4⟩ := List.any_eq_true.mp h3
      have h4 := of_decide_eq_true h4
      exact hx q hq (Int32.toInt_inj.mp (by omega))
theorem joff : ∀ (ps : List (Int × Int)) (d x : Int), (∀ a ∈ ps, ¬ x = a.1) → Op.lookupswitch.offset ps d x = d := by
  intro ps
  induction ps with
  | nil => intro d x _; rfl
  | cons a ps ih =>
    intro d x h
    rw [Op.lookupswitch.offset_cons, if_neg (by first | exact h a List.mem_cons_self | exact fun e => h a List.mem_cons_self e.symm)]
    exact ih d x (fun b hb => h b (List.mem_cons_of_mem _ hb))
theorem sd_lsw {dflt : Int} {ps : Array (Int × Int)} {len : Nat} {l : List (Int32 × Nat)} {d : Nat} (hp : (ps.toList.zip (ps.toList.drop 1)).all (fun (a, next) => a.1 < next.1) = true) (h1 : l.all (fun q => decide ((pc : Int) + Op.lookupswitch.offset ps.toList dflt q.1.toInt = (q.2 : Int))) = true) (h2 : ps.toList.all (fun a => l.any (fun q => decide (q.1.toInt = a.1))) = true) (h0 : (pc : Int) + dflt = (d : Int)) (hd : decode M.2.1 pc = .ok (.lookupswitch dflt ps, len)) : jsnd E T M pc (o_switch l d) := by
  refine sd_lswitch hp (fun q hq => of_decide_eq_true (List.all_eq_true.mp h1 q hq)) (fun x hx => ?_) hd
  rw [joff _ _ _ (fun a ha e => ?_)]
  · exact h0
  · obtain ⟨q, hq, h4⟩ := List.any_eq_true.mp (List.all_eq_true.mp h2 a ha)
    have h4 := of_decide_eq_true h4
    exact hx q hq (Int32.toInt_inj.mp (by omega))
theorem jkk.lx {E : JE} {s : State} (h : jkk E s) : jlx E s := h.2.2.2.2.2.2.2.2.2.2.2.2.2
theorem sd_lambda (hM1 : M.1 = "UnheardBells") (hM2 : M.2.2.2.2.1 = ("<init>", "()V")) (hpc : pc = 66) (hdp : 3081 ≤ jlc M.2.2.2.2.2.2) (hd : decode M.2.1 pc = .ok (.invokedynamic 42, 5)) : jsnd E T M pc (o_lambda 999) := by
  intro w0 wE p l e R s m args below meth c Q hc Cc K Rt hC hK hR L S H hI Hr locs ls hr hlo hz hl hw
  obtain ⟨hx, hb, hml, hown, hts, hkk, hret, hin, htab, hlk, hroom, hcel, hst, hb0⟩ := hc
  unfold o_lambda at hI
  split at hI
  next x S' =>
    cases eb : Nat.ble (jWs S') 8 with
    | false => rw [eb] at hI; exact hI.elim
    | true =>
      rw [eb] at hI
      have hI : K (pc + 5) L (jR (some H.2.1) :: S') (jnew H (jO 999 [jI x]) 1) := hI
      obtain ⟨⟨m', k, cf, i0, p0, h1, h2, h3, h4, h5, h6, h7, h8⟩, hO, -⟩ := hkk.lx
      have hn := (hin (by rw [hM2])).2
      rw [hM1, hM2] at hn
      cases hn.symm.trans h1
      obtain ⟨kK, tk, file, methk, ck, toy, iface, t, found, g0, a1, a2, a3, a4, a5, a6, a7, a8, a9, a10, a11, a12, a13, a14, a15, a16, a17, a18, a19, a20, a21, a22, a23, a24⟩ := jmade h2 h3 h7 hO
      obtain ⟨bsm, nt, name, desc, sig, b1, b2, b3, b4⟩ := jshape h5
      obtain ⟨r1, r2, r3, r4⟩ := jroom hw rfl (hK _ _ _ _ hI).1 hcel
      have hslots : ((kK.instanceTypes.toList.zip [Value.int x]).map fun (t, v) => narrow t v) = [Value.int x] := by rw [a20]; rfl
      have hg := (hK _ _ _ _ hI).2 _ locs ls (hr.new (cell := { cls := E.1.1 jlam, slots := [Value.int x].toArray, vm := .none }) (Or.inr ⟨rfl, by rw [Array.getElem?_push_size]; rfl⟩)) hlo (by rw [Array.size_push]; exact Nat.le_succ_of_le hz) hl (Nat.le_trans hw (jnew_room _ _ _))
      rw [← hr.1] at hg
      intro T hT X
      have hwd : 2 * 0 + (((Value.int x) :: S'.map jV).map fun v => v.category).sum + e.platform.lambdaLinkWords ≤ R.locals := by
        rw [X.admits.platform]
        have e1 : (((Value.int x) :: S'.map jV).map fun v => v.category).sum = 1 + jWs S' := by rw [List.map_cons, List.sum_cons, jWs_cat]; rfl
        rw [e1]
        have e2 := Nat.le_of_ble_eq_true eb
        have e3 := hroom.2
        show 2 * 0 + (1 + jWs S') + 3072 ≤ R.locals
        omega
      obtain ⟨X1, st1⟩ := X.lambdaMakes hx (g := F0 m pc ls (Value.int x :: S'.map jV)) rfl (by rw [hml]; exact hl.2.1) (by rw [hb]; exact hd) (vals := [Value.int x]) (rest := S'.map jV) h2 (by show (k.callSites.find? fun y => y.1 == m.idx && y.2.1 == pc) = _; rw [hpc]; exact h6) h4 b1 b2 b3 (by rw [b4]; rfl) rfl a1 hwd r1 (by rw [hslots]; exact r2)
        (fun i v hv => by
          rw [hslots] at hv
          match i with
          | 0 => simp at hv; subst hv; simp [State.fitsSlot, State.slotType?, a1, a21, a20, fits]
          | j + 1 => simp at hv)
      rw [hslots] at X1 st1
      subst hT
      obtain ⟨t2, c1, c2⟩ := (W.widen r3 r4 hg) _ rfl X1
      exact ⟨t2, st1 t2 c1, c2⟩
  next => exact hI.elim
theorem jlam_at {E : JE} {H : JHp} {Hr : Heap} (hr : jrel E H Hr) {a : Nat} {fs : List JVal} (h : job H a 999 fs) : Hr[a]? = some { cls := E.1.1 jlam, slots := (fs.map jV).toArray, vm := .none } := by
  obtain ⟨b, h⟩ := h
  cases b with
  | true =>
    rcases (hr.tr h).2 with ⟨r, h1, -⟩ | ⟨-, h2⟩
    · exact absurd h1 (by have h9 : jcl[999]? = none := rfl; rw [h9]; exact fun q => nomatch q)
    · exact h2
  | false =>
    obtain ⟨r, h1, -⟩ := (hr.2.2.2 _ _ _ h).2 rfl
    exact absurd h1 (by have h9 : jcl[999]? = none := rfl; rw [h9]; exact fun q => nomatch q)
theorem sd_rastl (hd : decode M.2.1 pc = .ok (.aastore, 1)) : jsnd E T M pc (o_rastl 4) := by
  intro w0 wE p l e R s m args below meth c Q hc Cc K Rt hC hK hR L S H hI Hr locs ls hr hlo hz hl hw
  obtain ⟨hx, hb, hml, hown, hts, hkk, hret, hin, htab, hlk, hroom, hcel, hst, hb0⟩ := hc
  unfold o_rastl at hI
  split at hI
  next x i r S' =>
    obtain ⟨a, n, f, rfl, h2, h3, h5, h4⟩ := hI
    have hb9 := (hr.tr h2).1
    have hlo9 : ∀ q ∈ locs ++ [⟨a, i.toNatClampNeg⟩], jb0 E ≤ q.base := fun q hq => by
      rcases List.mem_append.mp hq with h | h
      · exact hlo q h
      · rw [List.mem_singleton.mp h]
        exact hb9
    have hfin : ∀ H1 : Heap, H1[a]? = some ((vp_cell (E.2.1 4) (aR n f)).setSlot i.toNatClampNeg (va_rf x)) → H1.size = Hr.size → (∀ q, q ≠ a → H1[q]? = Hr[q]?) → W p l e R s m args below meth c H1 (locs ++ [⟨a, i.toNatClampNeg⟩]) (H.2.2 - w0) (H.2.2 - w0) Q (F0 m (pc + 1) ls (S'.map jV)) := fun H1 e1 e2 e3 => by
      refine (hK _ _ _ _ h4).2 H1 _ ls (hr.up h2 e2 e3 ?_) hlo9 (by rw [e2]; exact hz) hl hw
      show H1[a]? = some (vp_cell _ _)
      rw [e1, vp_cell_q, vp_cell_q, arrV_store]
      congr 2
      funext q
      by_cases hq : q = i.toNatClampNeg
      · subst hq
        simp [updV, va_up]
      · simp [updV, va_up, hq]
    cases x with
    | none => exact va_WaastN (C := "UnheardBells$Count") hx hb (hr.tr h2).2 ((hkk.1.2 4 _ rfl).1 n (fun j => va_rf (f j))) (fun h => by cases h) (by show ¬ (i < 0 ∨ (arrV _ _ _).slots.size ≤ _); rw [arrV_size]; exact h3) rfl rfl hd hfin
    | some v =>
      have hlt : i.toNatClampNeg < n := Nat.not_le.mp fun q => h3 (Or.inr q)
      have h0 : ¬ i < 0 := fun q => h3 (Or.inl q)
      obtain ⟨fs, hv⟩ := h5 v rfl
      have g1 := jlam_at hr hv
      obtain ⟨⟨m', k, cf, i0, p0, u1, u2, u3, u4, u5, u6, u7, u8⟩, hO, -⟩ := hkk.lx
      obtain ⟨kK, tk, file, methk, ck, toy, iface, t, found, g0, a1, -⟩ := jmade u2 u3 u7 hO
      obtain ⟨i2, hi2, hasg, -⟩ := State.lambdaCallable_spec u8
      obtain ⟨kA, comp, k1, k2, k3, -⟩ := (hkk.1.2 4 _ rfl).2
      obtain ⟨kE, hkE, -⟩ := Vm.findClass_spec k3
      cases hi2.symm.trans k3
      exact W.aast hx hb (hr.tr h2).2 (fun q h => by cases h) (fun h => by cases h) k1 k2 rfl hkE ⟨h0, by show _ < (arrV _ _ _).slots.size; rw [arrV_size]; exact hlt⟩ g1 (fun q h => by cases h) a1 hasg rfl rfl hd hfin
  next => exact hI.elim
theorem sd_lamcall {idx cnt k d L : Nat} {b : ByteArray} {y : MethodName} (hT : T k = (y, b, L, some .int, none, d)) (hy : y = ⟨"UnheardBells", "lambda$new$0", "(ILUnheardBells$Rope;)I"⟩) (hL : L ≤ 20) (hdep : d + 2 ≤ M.2.2.2.2.2.2) (hq1 : Cond.methodLink M.1 idx jcof ∈ lw_all) (hq2 : Cond.static y ∈ lw_all) (hq3 : Cond.initialized y.cls ∈ lw_all) (hq4 : Cond.code y b L (some .int) ∈ lw_all) (hd : decode M.2.1 pc = .ok (.invokeinterface idx cnt, 5)) : jsnd E T M pc (o_lamcall k 999) := by
  intro w0 wE p l e R s m args below meth c Q hc Cc K Rt hC hK hR Lo S H hI Hr locs ls hr hlo hz hl hw
  obtain ⟨hx, hb, hml, hown, hts, hkk, hret, hin, htab, hlk, hroom, hcel, hst, hb0⟩ := hc
  unfold o_lamcall at hI
  split at hI
  next s9 r9 S' =>
    cases eb : Nat.ble (jWs S') 8 with
    | false => rw [eb] at hI; exact hI.elim
    | true =>
      rw [eb] at hI
      have hs8 : 2 * 0 + ((S'.map jV).map fun v => v.category).sum ≤ 8 := by rw [jWs_cat]; exact Nat.le_trans (Nat.le_of_eq (Nat.zero_add _)) (Nat.le_of_ble_eq_true eb)
      obtain ⟨a, x, v, H1, rfl, ho, g1, g2⟩ := hI
      obtain ⟨hle, hM⟩ := hC _ _ _ _ _ g1
      rw [hT] at hM
      obtain ⟨hbud, hbe⟩ := jbud hw hle (hK _ _ _ _ g2).1 hcel
      have hcell := jlam_at hr ho
      obtain ⟨⟨m', k9, cf, i0, p0, u1, u2, u3, u4, u5, u6, u7, u8⟩, hO, hz1, hz2⟩ := hkk.lx
      obtain ⟨kK, tk, file, methk, ck, toy, iface, t, found, g0, a1, a2, a3, a4, a5, a6, a7, a8, a9, a10, a11, a12, a13, a14, a15, a16, a17, a18, a19, a20, a21, a22, a23, a24⟩ := jmade u2 u3 u7 hO
      obtain ⟨r0, r, hn, hrm, hstR, hsigR⟩ := Cond.declares_spec hz1
      obtain ⟨cL, kL, r1', hcL, hkL, hiL, hfoundL, hn1⟩ := Cond.interfaceMethod_spec hz2
      cases hn.symm.trans hn1
      have hr0cls : r0.cls = cL := Option.some.inj ((findClass_of_methodNamed hn).symm.trans hcL)
      obtain ⟨hnameR, hdescR⟩ := name_of_methodNamed hn hrm
      have esam : jσ.sam.toString = "(LUnheardBells$Rope;)I" := by decide +kernel
      cases hcL.symm.trans a22
      have hfr : found = r0 := by
        have h1 : s.methodFound? "UnheardBells$Count" "of" "(LUnheardBells$Rope;)I" = some r0 := hfoundL
        have hcL' : s.vm.findClass "UnheardBells$Count" = some iface := hcL
        simp only [State.methodFound?, hcL', hkL, hiL, Option.bind_eq_bind, Option.bind_some] at h1
        have h2 := a23
        rw [esam] at h2
        rw [h2] at h1
        exact Option.some.inj h1
      subst hfr
      obtain ⟨i2, hi2, hasg, hway⟩ := State.lambdaCallable_spec u8
      cases hcL.symm.trans hi2
      have hway' : ((E.1.1 jlam :: s.vm.superclasses (E.1.1 jlam)).any fun k => (declaredIn s.vm r.name r.desc k).any fun (_, z) => z.isPrivate || z.isStatic) = false := by
        rw [hnameR, hdescR]
        rw [esam] at hway
        exact hway
      have hlenR : ([jV (jR s9)] : List Value).length = r.sig.parameters.length := by
        have h1 : (parseMethodDescriptor "(LUnheardBells$Rope;)I").map (fun d => d.parameters.length) = some 1 := by decide +kernel
        rw [show parseMethodDescriptor "(LUnheardBells$Rope;)I" = some r.sig from hsigR] at h1
        exact (Option.some.inj h1).symm
      intro T1 hT1 X
      obtain ⟨vm₁, X₁, hstep₁⟩ := X.invokeinterface hx hown (hts _ hq1) hn hrm hstR (by rw [hr0cls]; exact hkL) hiL ⟨by decide, by decide⟩ (a := a) (cell := { cls := E.1.1 jlam, slots := ([jI x].map jV).toArray, vm := .none }) (kcell := kK) (by rw [hT1]; exact hcell) (fun z h => by cases h) a1 (by rw [hr0cls]; exact hasg)
        (by rw [Launch.admits_selectMethod X.admits]; exact a24) a5 hway' (by rw [a10]; decide) (by simp [Method.isAbstract, a10, hasFlag, Acc.abstract]) (g := F0 m pc ls (jV (jR s9) :: .ref a :: S'.map jV)) rfl (argsL := [jV (jR s9)]) (rest := S'.map jV) hlenR rfl (by rw [hb]; exact hd)
      obtain ⟨kK', hkK', eK⟩ := X₁.warmed.alike.2.2 _ _ a1
      have hst1 := jlc_step (d := d + 1) hdep
      have hst0 := jlc_step (d := d) (D := d + 1) (Nat.le_refl _)
      obtain ⟨Y₀, hin9⟩ := X₁.into (g := F0 m pc ls (S'.map jV)) rfl (by rw [hml]; exact hl.2.1) (ig := .invokeinterface idx cnt) (len := 5) (by rw [hb]; exact hd) (mk := ⟨E.1.1 jlam, 1⟩) (methk := methk) (ck := ck) (.ref a :: [jV (jR s9)]).toArray (R' := { frames := d + 1, locals := jlc (d + 1), cells := H1.2.2 - H.2.2, slots := H1.2.2 - H.2.2 })
        (by have h9 := X₁.warmed.alike.method? (m := (⟨E.1.1 jlam, 1⟩ : MethodId)); exact h9.trans a5) a6 a9 (State.plainMethod.of_name (fun k' hk' => by cases hkK'.symm.trans hk'; rw [eK]; show plainName kK.name = true; rw [a2]; decide)) (by show d + 1 + 1 ≤ R.frames; have h9 := hroom.1; omega) (by rw [a8]; show 2 * 0 + ((S'.map jV).map fun v => v.category).sum + (2 + 11) + jlc (d + 1) ≤ R.locals; have h9 := hroom.2; omega) hbud.1 hbud.2
      have hWS : s.WarmedH ((T1.setVm vm₁).calling (F0 m pc ls (S'.map jV)) ⟨E.1.1 jlam, 1⟩ (.ref a :: [jV (jR s9)]).toArray).vm := X₁.warmed
      have hent : entryFrame ⟨E.1.1 jlam, 1⟩ (.ref a :: [jV (jR s9)]).toArray ck.maxLocals = F0 ⟨E.1.1 jlam, 1⟩ 0 #[.val (.ref a), .val (jV (jR s9))] [] := by rw [a8]; cases s9 <;> rfl
      generalize hU0 : ((T1.setVm vm₁).setTop (F0 m pc ls (S'.map jV))).pushFrame (.java (entryFrame ⟨E.1.1 jlam, 1⟩ (.ref a :: [jV (jR s9)]).toArray ck.maxLocals)) = U₀ at Y₀ hin9
      have hvm : U₀.vm = vm₁ := by rw [← hU0]; rfl
      have hheap : U₀.heap = Hr := by rw [← hU0, ← hT1]; rfl
      have hWU : s.WarmedH U₀.vm := by rw [hvm]; exact X₁.warmed
      obtain ⟨⟨m2, k2, cf2, i2, p2, v1, v2, v3, v4, v5, v6, v7, v8⟩, hO2, -⟩ := (jkk.warm hWU hkk).lx
      obtain ⟨kK2, tk2, file2, methk2, ck2, toy2, iface2, t2, found2, g2f, b1, b2, b3, b4, b5, b6, b7, b8, b9, b10, b11, b12, b13, b14, b15, b16, b17, b18, b19, b20, b21, b22, b23, b24⟩ := jmade v2 v3 v7 hO2
      have hcodeU : (Cond.code y b L (some .int)).before args U₀ = true := word_at hWU (Or.inl (by first | rfl | simp [Cond.onTables, Cond.keeps, Cond.steady])) (hts _ hq4)
      have hstU : (Cond.static y).before args U₀ = true := word_at hWU (Or.inl (by first | rfl | simp [Cond.onTables, Cond.keeps, Cond.steady])) (hts _ hq2)
      have hiniU : (Cond.initialized y.cls).before args U₀ = true := word_at hWU (Or.inl (by first | rfl | simp [Cond.onTables, Cond.keeps, Cond.steady])) (hts _ hq3)
      obtain ⟨mB, hnB⟩ := Cond.code_named hcodeU
      obtain ⟨methB, cB, hmB, -, -, -, -, -, -, hsigB⟩ := Cond.code_spec hnB hcodeU
      have hstaticB : methB.isStatic = true := Cond.static_spec hnB hmB hstU
      have hG := lw_meth hq4
      have hfT := findClass_of_methodNamed hnB
      obtain ⟨kT', hkT', hnameT⟩ := className_of_methodNamed hnB
      have hKB := back_of (R := { frames := d + 1, locals := jlc (d + 1), cells := H1.2.2 - H.2.2, slots := H1.2.2 - H.2.2 }) (p := p) (e := e) (below := .java (F0 m pc ls (S'.map jV)) :: below) (s := (T1.setVm vm₁).calling (F0 m pc ls (S'.map jV)) ⟨E.1.1 jlam, 1⟩ (.ref a :: [jV (jR s9)]).toArray) (sargs := (.ref a :: [jV (jR s9)]).toArray) (len := 3) (W := 8) (bytes := b) (maxL := L) (ret := some .int) hM jpre.blind rfl rfl (Nat.le_refl _) (by show 8 + (L + 11) + jlc d ≤ jlc (d + 1); omega)
        (fun w hw9 a' U hW9 => pay_in hts hG w hw9 a' U (hWS.trans hW9)) List.mem_cons_self (fun a' U hW9 => word_at (hWS.trans hW9) (Or.inl (by first | rfl | simp [Cond.onTables, Cond.keeps, Cond.steady])) (hts _ hq3))
      subst hy
      cases (show U₀.vm.findClass "UnheardBells" = some toy2 from b12).symm.trans hfT
      have hinitK : tk2.init = .initialized := Cond.initialized_spec hfT b13 hiniU
      cases b13.symm.trans hkT'
      have htB : t2 = mB := by
        have h1 := State.methodFound?_of_named hnB ⟨by decide, by decide⟩
        have hfT' : U₀.vm.findClass "UnheardBells" = some mB.cls := hfT
        simp only [State.methodFound?, hfT', b13, Option.bind_eq_bind, Option.bind_some] at h1
        rw [b14] at h1
        exact Option.some.inj h1
      subst htB
      have hsp : ∀ z : Method, signaturePolymorphic tk2 z = false := fun z => by simp [signaturePolymorphic, hnameT]
      obtain ⟨bb, hmem⟩ := memberRef_ask' (e := e) (vm := U₀.vm) (d := E.1.1 jlam) (index := 23) b1 b3 (Or.inl (by rw [b4]; exact jDM.1)) (by rw [b4]; exact jDM.2.2)
      have href : plainRef U₀ e (E.1.1 jlam) 23 := ⟨19, _, _, bb, t2.cls, tk2, hmem, b16, b13, by simp [hsp]⟩
      have hd0 : decode ck.code 0 = .ok (.aload_n 0, 1) := by rw [a7]; exact jfw0
      have hd1 : decode ck.code 1 = .ok (.getfield 15, 3) := by rw [a7]; exact jfw1
      have hd4 : decode ck.code 4 = .ok (.aload_n 1, 1) := by rw [a7]; exact jfw4
      have hd5 : decode ck.code 5 = .ok (.invokestatic 23, 3) := by rw [a7]; exact jfw5
      have hd8 : decode ck.code 8 = .ok (.ireturn, 1) := by rw [a7]; exact jfw8
      have hrf : (jV (jR s9)).isRef = true := by cases s9 <;> rfl
      have hlenB : ([.int x, jV (jR s9)] : List Value).length = methB.sig.parameters.length := by
        have h1 : (parseMethodDescriptor "(ILUnheardBells$Rope;)I").map (fun d => d.parameters.length) = some 2 := by decide +kernel
        rw [show parseMethodDescriptor "(ILUnheardBells$Rope;)I" = some methB.sig from hsigB] at h1
        exact (Option.some.inj h1).symm
      obtain ⟨v9, ⟨U₁, L₁, c₁, n₁⟩, Y₁, hpost, hst9⟩ := hKB ⟨E.1.1 jlam, 1⟩ methk ck ⟨U₀, [], 0, 0⟩ (F0 ⟨E.1.1 jlam, 1⟩ 5 #[.val (.ref a), .val (jV (jR s9))] []) (.invokestatic 23) t2 ([.int x, jV (jR s9)] : List Value).toArray Y₀ rfl (by rw [a8]; rfl) hd5 (by show 2 * 0 + 0 ≤ 8; decide) hnB
        ⟨by show 0 + _ ≤ _; rw [Nat.zero_add]; exact Nat.le_refl _, by show 0 + _ ≤ _; rw [Nat.zero_add]; exact Nat.le_refl _, jpre.of (as := [jI x, jR s9]) hr hkk U₀ hheap hWU⟩
      obtain ⟨g9, mk9, t9, L9, e1, e2, ⟨ho9, hrel9, hsz9⟩, h1, hL9, h2, h3⟩ := hpost
      dsimp only [Pt.U, Pt.locs, Pt.cells, Pt.slots] at Y₁ e1 e2 h1 h2 h3 hst9 hsz9
      have ho9 : Outcome.returned v9 = .returned (some (.int v)) := ho9
      cases ho9
      obtain ⟨fs, hleave, -, hended, hWe, hsame⟩ := Y₁.leave (v := some (.int v)) (fun h => by rw [a11] at h; cases h) a9
      obtain ⟨T', X', hW', -, ht⟩ := X₁.outOf (g := F0 m pc ls (S'.map jV)) rfl (ig := .invokeinterface idx cnt) (len := 5) (by rw [hb]; exact hd) hended hWe hsame
      have hheapT : T'.heap = t9.heap := (congrArg State.heap ht).symm.trans e1
      have X2 : Stand p l e R s m args below meth c T' (locs ++ L₁) (H1.2.2 - w0) (H1.2.2 - w0) := by
        rw [← hbe]
        have h9 := X'
        rw [h2, h3, Nat.zero_add] at h9
        exact h9
      obtain ⟨tt, q1, q2⟩ := (hK _ _ _ _ g2).2 T'.heap (locs ++ L₁) ls (by rw [hheapT]; exact hrel9) (fun q hq => by
        rcases List.mem_append.mp hq with h | h
        · exact hlo q h
        · rw [h1, List.nil_append] at h; exact hL9 q h) (by
        rw [hheapT]
        refine Nat.le_trans hz (Nat.le_trans (Nat.le_of_eq ?_) hsz9)
        show Hr.size = U₀.heap.size
        rw [hheap]) hl (Nat.le_trans hw hle) T' rfl X2
      refine ⟨tt, hstep₁ tt fun acts => ?_, q2⟩
      rw [hin9 acts, hent]
      have k1 : Steps p.tables e (.java (F0 m pc ls (S'.map jV)) :: below) (U₀.setTop (F0 ⟨E.1.1 jlam, 1⟩ 0 #[.val (.ref a), .val (jV (jR s9))] [])) (U₀.setTop (F0 ⟨E.1.1 jlam, 1⟩ 1 #[.val (.ref a), .val (jV (jR s9))] [.ref a])) := by
        jvm_step Y₀.here [hx, hd0, Value.isRef]
        exact Steps.refl _
      have k2 : Steps p.tables e (.java (F0 m pc ls (S'.map jV)) :: below) (U₀.setTop (F0 ⟨E.1.1 jlam, 1⟩ 1 #[.val (.ref a), .val (jV (jR s9))] [.ref a])) (U₀.setTop (F0 ⟨E.1.1 jlam, 1⟩ 4 #[.val (.ref a), .val (jV (jR s9))] [.int x])) := by
        jvm_step Y₀.here [hx, hd1, getfield.wp_ready (e := e) (s := U₀) (c := E.1.1 jlam) (field := g2f) (a := a) (rest := []) (cell := { cls := E.1.1 jlam, slots := ([jI x].map jV).toArray, vm := .none }) (v := .int x) (f := F0 ⟨E.1.1 jlam, 1⟩ 1 #[.val (.ref a), .val (jV (jR s9))] [.ref a]) Y₀.here.top b17 b18 rfl (by rw [hheap]; exact hcell) (fun h => by cases h) (by rw [b19]; rfl)]
        exact Steps.refl _
      have k3 : Steps p.tables e (.java (F0 m pc ls (S'.map jV)) :: below) (U₀.setTop (F0 ⟨E.1.1 jlam, 1⟩ 4 #[.val (.ref a), .val (jV (jR s9))] [.int x])) (U₀.setTop (F0 ⟨E.1.1 jlam, 1⟩ 5 #[.val (.ref a), .val (jV (jR s9))] [jV (jR s9), .int x])) := by
        jvm_step Y₀.here [hx, hd4, hrf]
        exact Steps.refl _
      have k4 : Steps p.tables e (.java (F0 m pc ls (S'.map jV)) :: below) (U₀.setTop (F0 ⟨E.1.1 jlam, 1⟩ 5 #[.val (.ref a), .val (jV (jR s9))] [jV (jR s9), .int x])) (U₁.setTop (F0 ⟨E.1.1 jlam, 1⟩ 8 #[.val (.ref a), .val (jV (jR s9))] [.int v])) := by
        refine Steps.trans ?_ hst9
        jvm_step Y₀.here [hx, hd5, invokestatic.wp_ready (e := e) (s := U₀) (m := t2) (k := tk2) (meth := methB) (args := [.int x, jV (jR s9)]) (rest := []) (f := F0 ⟨E.1.1 jlam, 1⟩ 5 #[.val (.ref a), .val (jV (jR s9))] [jV (jR s9), .int x]) Y₀.here.top href b15 b13 hmB (hsp _) hstaticB hinitK hlenB rfl]
        intro acts
        rw [doInvoke_state]
        exact Steps.refl _
      have k5 : Steps p.tables e (.java (F0 m pc ls (S'.map jV)) :: below) (U₁.setTop (F0 ⟨E.1.1 jlam, 1⟩ 8 #[.val (.ref a), .val (jV (jR s9))] [.int v])) (U₁.setFrames fs) := by
        have hm' : U₁.vm.method? ⟨E.1.1 jlam, 1⟩ = some methk := Y₁.method'
        jvm_step Y₁.here [Y₁.here.top, hx, hd8, hm', a11, show narrow .int (.int v) = .int v from rfl]
        first | (intro acts; rw [hleave _ acts rfl rfl rfl]) | rw [hleave _ _ rfl rfl rfl]
        exact Steps.refl _
      refine Steps.trans (Steps.weaken (mid := [.java (F0 m pc ls (S'.map jV))]) (k1.trans (k2.trans (k3.trans (k4.trans k5))))) ?_
      rw [ht]
      exact q1
  next => exact hI.elim
end SDW
