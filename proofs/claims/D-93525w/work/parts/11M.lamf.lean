set_option maxRecDepth 100000
/-- what is known of a lambda's class -/
theorem lam_facts {kd : Nat} (h1 : 20 ≤ kd) (h2 : kd < 40) {vm : Vm} {d c : ClassId} {dk : Class} (hd : vm.classes[d]? = some dk) (hname : dk.name = (sX kd).cls) (h : Lambda.isMade { classPath := fun _ => none } vm d (sG kd) c = true)
    (hO : ∀ o ok, vm.findClass "java/lang/Object" = some o → vm.classes[o]? = some ok → ok.instanceTypes.size = 0) :
    ∃ (k tk : Class) (file : ClassFile) (methk : Method) (ck : Code) (toy : ClassId) (t : MethodId),
      vm.classes[c]? = some k ∧ k.name = (sX kd).cls ++ "$$Lambda" ∧ k.cf = some file ∧ file.constantPool = (hD kd).constantPool ∧
      vm.method? ⟨c, 1⟩ = some methk ∧ methk.code = some ck ∧ ck.code = hc kd ∧ ck.maxLocals = 2 ∧ methk.locks = false ∧ methk.accessFlags = 1 ∧ methk.sig.returnType = (sG kd).sam.returnType ∧
      vm.findClass (sG kd).implClass = some toy ∧ vm.classes[toy]? = some tk ∧ tk.isInterface = false ∧ ((methodIn toy (sG kd).implName (sG kd).implDesc.toString tk.isInterface none).ask { classPath := fun _ => none } vm).1 = .ok t ∧
      vm.methodReady c (mIx kd) t ∧ vm.classReady c (cIx kd) toy ∧ (∀ (i ix : Nat), (fld kd)[i]? = some ix → ∃ f : Field, vm.fieldReady c ix c f ∧ f.isStatic = false ∧ f.slot = i) ∧ k.instanceTypes.toList = (sG kd).captured := by
  obtain ⟨o1, o2, o3, o4, o5, o6, o7, o8, o9, o10, o11, o12, o13, o14, o15, -⟩ := lamOk h1 h2
  obtain ⟨dk', k, ok, tk, file, cf, object, iface, toy, lay, methods, target, found, hd', hk, hfile, hcf, hobj, -, hok, hlay, hms, ht, htk, hg, -, hrec, -, -, -, hitf, hpool, hmeth, hfields, hty, hres, -⟩ := Lambda.isMade_spec h
  cases hd.symm.trans hd'
  have file_is : (sG kd).file (sX kd).cls = some (hD kd) := by
    obtain ⟨x, hx⟩ := Option.isSome_iff_exists.mp o1
    simp [hD, hx]
  rw [hname, file_is] at hcf
  cases hcf
  have laid_is : layoutFields (hD kd) 0 = some (hY kd) := by
    obtain ⟨x, hx⟩ := Option.isSome_iff_exists.mp o3
    simp [hY, hx]
  have hz := hO object ok hobj hok
  rw [hz, laid_is] at hlay
  cases hlay
  have second_is : methods[1]? = some (hF kd) := by
    obtain ⟨x, hx⟩ := Option.isSome_iff_exists.mp o2
    have hf : hF kd = x := by simp [hF, hx]
    rw [hms] at hx
    rw [hf]
    exact hx
  obtain ⟨b, hb, hsame⟩ := hmeth 1 _ second_is
  simp only [Lambda.sameMethod, Bool.and_eq_true, decide_eq_true_eq] at hsame
  obtain ⟨⟨hn, -, hsig, hfl⟩, hcode⟩ := hsame
  simp only [Prod.mk.injEq] at o5
  cases hfc : (hF kd).code with
  | none => rw [hfc] at o4; cases o4
  | some x =>
    cases hbc : b.code with
    | none => simp [hfc, hbc] at hcode
    | some y =>
      simp only [hfc, hbc, Bool.and_eq_true, decide_eq_true_eq] at hcode
      simp only [hfc, Option.map_some, Option.some.injEq, Prod.mk.injEq] at o4
      refine ⟨k, tk, file, b, y, toy, target, hk, by rw [hrec.1, hname], hfile, hpool.2.1, by simp [Vm.method?, hk, hb], hbc, ?_, by rw [← hcode.1.1.1.1.2.1]; exact o4.2, ?_, by rw [← hfl]; exact o5.1, by rw [← hsig]; exact o5.2.1, ht, htk, by rw [hitf]; exact o15, hg,
        ⟨k, hk, hres _ _ (Lambda.resolvedOf_method o6 o7 ht htk o8 hg)⟩, ⟨k, hk, hres _ _ (Lambda.resolvedOf_class o9 o11 o10 ht)⟩, fun i ix hi => ?_, ?_⟩
      · rw [← hcode.1.1.1.1.2.2]
        exact ByteArray.ext o4.1
      · simp [Method.locks, Method.isSynchronized, ← hfl, o5.1, hasFlag, Acc.synchronized]
      · have hlt : i < (fld kd).length := (List.getElem?_eq_some_iff.mp hi).1
        obtain ⟨e1, e2, e3⟩ := o12 i (List.mem_range.mpr hlt)
        have eD : (fld kd).getD i 0 = ix := by rw [List.getD_eq_getElem?_getD, hi]; rfl
        rw [eD] at e1 e2
        obtain ⟨f, hf, hp⟩ := Option.map_eq_some_iff.mp e3
        simp only [Prod.mk.injEq] at hp
        obtain ⟨⟨nm, ds⟩, hnt, hidx⟩ := Option.map_eq_some_iff.mp e2
        exact ⟨f, ⟨k, i, k, hk, hres ix _ (Lambda.resolvedOf_field e1 hnt hidx), hk, hfields i _ hf⟩, hp.1, hp.2⟩
      · rw [hty.1, Array.toList_append]
        have : ok.instanceTypes.toList = [] := List.eq_nil_of_length_eq_zero (by simpa using hz)
        rw [this]
        exact o13
/-- which index a constant lambda has -/
def lamC (kd : Nat) : Nat := match kd with
  | 20 => 1 | 21 => 2 | 23 => 3 | 24 => 4 | 25 => 5 | 29 => 6 | _ => 0
/-- a site, linked -/
def LmS (G : Gx) (kd : Nat) (U : State) : Prop := ∃ (m : MethodId) (k : Class) (cf : ClassFile) (i0 p0 : Nat) (l : Linked), U.methodNamed? (sX kd) = some m ∧ U.vm.classes[m.cls]? = some k ∧ k.cf = some cf ∧ Lambda.shapeOf? cf (sIx kd) = some (sG kd) ∧
  (k.callSites.find? fun y => y.1 == m.idx && y.2.1 == sPc kd) = some (i0, p0, l) ∧ Lambda.isMade { classPath := fun _ => none } U.vm m.cls (sG kd) (xK G kd) = true ∧ U.lambdaCallable (sG kd) (xK G kd) = true ∧ (lamC kd = 0 → l = .makes (xK G kd)) ∧ (0 < lamC kd → l = .constant (xA G (lamC kd)))
theorem LmS.moved {G : Gx} {kd : Nat} {u U : State} (hW : u.WarmedH U.vm) (h : LmS G kd u) : LmS G kd U := by
  obtain ⟨m, kc, cf, i0, p0, l, hm, hk, hcf, hsh, hfind, hmade, hcall, hl1, hl2⟩ := h
  have hA := hW.alike
  have hcall' : U.lambdaCallable (sG kd) (xK G kd) = true := by
    simp only [State.lambdaCallable, hA.findClass, hA.assignable, hA.superclasses, hA.declaredIn] at hcall ⊢
    exact hcall
  obtain ⟨kc', hk', he⟩ := hA.2.2 _ _ hk
  have hm' : U.methodNamed? (sX kd) = some m := by
    have := State.methodNamed?_setVm (s := u) hA (sX kd)
    rw [hm] at this
    exact this
  exact ⟨m, kc', cf, i0, p0, l, hm', hk', by rw [he]; exact hcf, hsh, by rw [he]; exact hfind, Lambda.isMade_warmer hW hmade, hcall', hl1, hl2⟩
/-- the interfaces' methods -/
def iT (t : Nat) : MethodName := match t with
  | 50 => ⟨"IntervalTree$Filter", "accepts", "(LIntervalTree$Node;)Z"⟩
  | 51 => ⟨"IntervalTree$Property", "of", "(LIntervalTree$Node;)I"⟩
  | _ => ⟨"IntervalTree$Visitor", "visit", "(LIntervalTree$Node;)V"⟩
def EnL (G : Gx) (U : State) : Prop := (∀ kd, 20 ≤ kd → kd < 40 → LmS G kd U) ∧ ∀ t, 50 ≤ t → t < 53 → (Cond.declares (iT t)).before #[] U = true ∧ (Cond.interfaceMethod (iT t).cls (iT t).cls (iT t).name (iT t).desc).before #[] U = true
theorem iT_ok (t : Nat) : (iT t).cls ≠ "java/lang/invoke/MethodHandle" ∧ (iT t).cls ≠ "java/lang/invoke/VarHandle" := by
  unfold iT
  split <;> decide +kernel
theorem face_moved {x : MethodName} (hx : x.cls ≠ "java/lang/invoke/MethodHandle" ∧ x.cls ≠ "java/lang/invoke/VarHandle") {u U : State} (hvm : u.vm.Alike U.vm) (h1 : (Cond.declares x).before #[] u = true) (h2 : (Cond.interfaceMethod x.cls x.cls x.name x.desc).before #[] u = true) :
    (Cond.declares x).before #[] U = true ∧ (Cond.interfaceMethod x.cls x.cls x.name x.desc).before #[] U = true := by
  obtain ⟨r, meth, hn, -⟩ := Cond.declares_spec h1
  have tr : ∀ {c : Cond}, c.onTables = true → c.before #[] (u.setVm U.vm) = true → c.before #[] U = true := by
    intro c hc hb
    have e := Cond.onTables_vm (A := #[]) (A' := #[]) (U := u) (U' := U) U.vm c hc
    have hU : U.setVm U.vm = U := rfl
    rw [hU] at e
    rw [← e]
    exact hb
  exact ⟨tr rfl (by rw [Cond.declares_setVm hvm]; exact h1), tr rfl (by rw [Cond.interfaceMethod_setVm hvm (r := r) hn hx]; exact h2)⟩
theorem EnL.moved {G : Gx} {u U : State} (hW : u.WarmedH U.vm) (h : EnL G u) : EnL G U :=
  ⟨fun kd a b => (h.1 kd a b).moved hW, fun t a b => face_moved (iT_ok t) hW.alike (h.2 t a b).1 (h.2 t a b).2⟩
