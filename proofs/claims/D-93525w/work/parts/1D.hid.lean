set_option maxRecDepth 100000
/-! ===== the one method of a lambda's class ===== -/
theorem lw_warm {args a' : Array Value} {s U : State} (hts : ∀ w ∈ lw_all, w.before args s = true) (hW : s.WarmedH U.vm) {w : Cond} (h : w ∈ lw_all) : w.before a' U = true := word_at hW (lw_self w h).2 (hts w h)
section Hid
variable {p : Program} {l : Launch} {e : Env} {R : Room} {s : State} {m : MethodId} {args : Array Value} {below : List Frame} {meth : Method} {c : Code} {H : Heap} {locs : List Loc} {cells slots : Nat} {Q : State → Prop} {cc : ByteArray} {pc : Nat} {ls : Array Slot} {rest : List Value} {T : State}
/-- a field of a lambda's object -/
theorem W.hget (hexec : p.tables.exec = Jvm.exec) (hb : c.code = cc) {ix a i : Nat} {cell : Cell} {v : Value} (hf : ∀ U : State, s.WarmedH U.vm → ∃ f : Field, U.vm.fieldReady m.cls ix m.cls f ∧ f.isStatic = false ∧ f.slot = i) (hcell : H[a]? = some cell) (hk : cell.vm = .none) (hv : cell.slots[i]? = some v)
    (hd : decode cc pc = .ok (.getfield ix, 3)) (k : W p l e R s m args below meth c H locs cells slots Q (F0 m (pc + 3) ls (v :: rest))) : W p l e R s m args below meth c H locs cells slots Q (F0 m pc ls (.ref a :: rest)) := by
  intro T hT X
  obtain ⟨t, a1, b1⟩ := k T hT X
  refine ⟨t, ?_, b1⟩
  obtain ⟨f, hf1, hf2, hf3⟩ := hf T X.warmed
  subst hb
  jvm_step X.here [hexec, hd, getfield.wp_ready (e := e) (s := T) (c := m.cls) (field := f) (a := a) (rest := rest) (cell := cell) (v := v) (f := F0 m pc ls (.ref a :: rest)) X.here.top hf1 hf2 rfl (by rw [hT]; exact hcell) (by rw [hk]; exact fun z => nomatch z) (by rw [hf3]; exact hv)]
  exact a1
theorem W.hloads {kd a : Nat} {cell : Cell} (h1 : 20 ≤ kd) (h2 : kd < 40) (hexec : p.tables.exec = Jvm.exec) (hb : c.code = hc kd) (hf : ∀ (i ix : Nat), (fld kd)[i]? = some ix → ∀ U : State, s.WarmedH U.vm → ∃ f : Field, U.vm.fieldReady m.cls ix m.cls f ∧ f.isStatic = false ∧ f.slot = i)
    (hcell : H[a]? = some cell) (hk : cell.vm = .none) (vals : List Value) (hlen : vals.length = (fld kd).length) (hv : ∀ (i : Nat) (v : Value), vals[i]? = some v → cell.slots[i]? = some v) (hl : ls[0]? = some (.val (.ref a)))
    (k : W p l e R s m args below meth c H locs cells slots Q (F0 m (4 * (fld kd).length) ls vals.reverse)) : ∀ j, j ≤ (fld kd).length → W p l e R s m args below meth c H locs cells slots Q (F0 m (4 * ((fld kd).length - j)) ls (vals.take ((fld kd).length - j)).reverse) := by
  intro j
  induction j with
  | zero =>
    intro _
    rw [Nat.sub_zero, ← hlen, List.take_length, hlen]
    exact k
  | succ j ih =>
    intro hj
    obtain ⟨i, hi⟩ : ∃ i, i = (fld kd).length - (j + 1) := ⟨_, rfl⟩
    have e1 : (fld kd).length - j = i + 1 := by omega
    have hlt : i < (fld kd).length := by omega
    have ih' := ih (by omega)
    rw [e1] at ih'
    rw [← hi]
    obtain ⟨-, -, -, -, -, -, -, -, -, -, -, -, -, -, -, o16, -⟩ := lamOk h1 h2
    obtain ⟨d1, d2⟩ := o16 i (List.mem_range.mpr hlt)
    have hvi : i < vals.length := by omega
    have hx : (fld kd)[i]? = some ((fld kd).getD i 0) := by rw [List.getD_eq_getElem?_getD, List.getElem?_eq_getElem hlt]; rfl
    refine lv_aload_n (i := 0) hexec hb d1 rfl hl ?_
    refine W.hget hexec hb (hf i _ hx) hcell hk (hv i _ (List.getElem?_eq_getElem hvi)) d2 ?_
    have e2 : (vals.take (i + 1)).reverse = vals[i] :: (vals.take i).reverse := by
      rw [List.take_succ_eq_append_getElem hvi, List.reverse_append]
      rfl
    rw [e2] at ih'
    exact ih'
theorem W.hl {kd a : Nat} {cell : Cell} (h1 : 20 ≤ kd) (h2 : kd < 40) (hexec : p.tables.exec = Jvm.exec) (hb : c.code = hc kd) (hf : ∀ (i ix : Nat), (fld kd)[i]? = some ix → ∀ U : State, s.WarmedH U.vm → ∃ f : Field, U.vm.fieldReady m.cls ix m.cls f ∧ f.isStatic = false ∧ f.slot = i)
    (hcell : H[a]? = some cell) (hk : cell.vm = .none) (vals : List Value) (hlen : vals.length = (fld kd).length) (hv : ∀ (i : Nat) (v : Value), vals[i]? = some v → cell.slots[i]? = some v) (hl : ls[0]? = some (.val (.ref a)))
    (k : W p l e R s m args below meth c H locs cells slots Q (F0 m (4 * (fld kd).length) ls vals.reverse)) : W p l e R s m args below meth c H locs cells slots Q (F0 m 0 ls []) := by
  have h := W.hloads h1 h2 hexec hb hf hcell hk vals hlen hv hl k (fld kd).length (Nat.le_refl _)
  rw [Nat.sub_self, Nat.mul_zero, List.take_zero] at h
  exact h
/-- the target's call, static -/
theorem hid_callS (X : Stand p l e R s m args below meth c T locs cells slots) (hexec : p.tables.exec = Jvm.exec) {kd : Nat} (h1 : 20 ≤ kd) (h2 : kd < 40) {y : MethodName} (hy9 : hY9 kd = y) {bytes : ByteArray} {maxL : Nat} {ret : Option FieldType}
    (hL : ∀ U : State, s.WarmedH U.vm → ∃ (k tk : Class) (file : ClassFile) (toy : ClassId) (t : MethodId), U.vm.classes[m.cls]? = some k ∧ k.cf = some file ∧ file.constantPool = (hD kd).constantPool ∧ U.vm.findClass (sG kd).implClass = some toy ∧ U.vm.classes[toy]? = some tk ∧ tk.isInterface = false ∧ ((methodIn toy (sG kd).implName (sG kd).implDesc.toString tk.isInterface none).ask { classPath := fun _ => none } U.vm).1 = .ok t ∧ U.vm.methodReady m.cls (mIx kd) t ∧ U.vm.classReady m.cls (cIx kd) toy)
    (hts : ∀ w ∈ lw_all, w.before args s = true) (q2 : Cond.static y ∈ lw_all) (q4 : Cond.initialized y.cls ∈ lw_all) (q5 : Cond.code y bytes maxL ret ∈ lw_all) (hy : y.cls ≠ "java/lang/invoke/MethodHandle" ∧ y.cls ≠ "java/lang/invoke/VarHandle")
    {W9 : Nat} {Pre : Pt → Array Value → Prop} {Post : Pt → Array Value → Option Value → Pt → Prop} {PostX : Pt → Array Value → Addr → Pt → Prop} (hK : vx_Back l R p e below s args y 3 W9 Pre Post PostX)
    {g : JFrame} (hg : g.method = m) (hsize : g.locals.size = c.maxLocals) {argsL rest : List Value} (hlen : ∀ sig, parseMethodDescriptor y.desc = some sig → argsL.length = sig.parameters.length)
    (hstack : g.stack = argsL.reverse ++ rest) (hW : 2 * g.monitorRoom + (rest.map fun v => v.category).sum ≤ W9) (hdg : decode c.code g.pc = .ok (.invokestatic (mIx kd), 3))
    (hpre : Pre ⟨T, locs, cells, slots⟩ argsL.toArray) :
    (∃ (v : Option Value) (B : Pt), Stand p l e R s m args below meth c B.U B.locs B.cells B.slots ∧ Post ⟨T, locs, cells, slots⟩ argsL.toArray v B ∧
      ∀ target, Steps p.tables e below (B.U.setTop { g with pc := g.pc + 3, stack := v.toList ++ rest }) target → Steps p.tables e below (T.setTop g) target) ∨
    (∃ (q : Addr) (B : Pt), Stand p l e R s m args below meth c B.U B.locs B.cells B.slots ∧ PostX ⟨T, locs, cells, slots⟩ argsL.toArray q B ∧
      Steps p.tables e below (T.setTop g) ((B.U.setTop { g with stack := rest }).pushFrame (.throwing q))) := by
  obtain ⟨-, -, -, -, -, o6, -, o8, -⟩ := lamOk h1 h2
  obtain ⟨k, tk, file, toy, t, hk, hfile, hpool, htoy, htk, hitf, hlook, hready, hclsR⟩ := hL T X.warmed
  have hcode : (Cond.code y bytes maxL ret).before args T = true := lw_warm hts X.warmed q5
  obtain ⟨mk, hnamed⟩ := Cond.code_named hcode
  obtain ⟨methM, cM, hmethM, -, -, -, -, -, -, hsigM⟩ := Cond.code_spec hnamed hcode
  have hstatic : methM.isStatic = true := Cond.static_spec hnamed hmethM (lw_warm (a' := args) hts X.warmed q2)
  obtain ⟨kP, hkP, hkn⟩ := className_of_methodNamed hnamed
  have hinitP : kP.init = .initialized := Cond.initialized_spec (findClass_of_methodNamed hnamed) hkP (lw_warm (a' := args) hts X.warmed q4)
  have hfound : T.methodFound? y.cls y.name y.desc = some mk := State.methodFound?_of_named hnamed hy
  have hmt : T.methodFound? y.cls y.name y.desc = some t := by
    subst hy9
    simp only [State.methodFound?, hY9]
    rw [htoy]
    simp only [Option.bind_eq_bind, Option.bind_some, htk, hlook]
    rfl
  cases hfound.symm.trans hmt
  have hcls : toy = t.cls := by
    have h := findClass_of_methodNamed hnamed
    subst hy9
    exact Option.some.inj (htoy.symm.trans h)
  subst hcls
  cases htk.symm.trans hkP
  have hpoly : ∀ x : Method, signaturePolymorphic tk x = false := fun x => by
    have e1 : (tk.name == "java/lang/invoke/MethodHandle") = false := by rw [hkn]; simpa using hy.1
    have e2 : (tk.name == "java/lang/invoke/VarHandle") = false := by rw [hkn]; simpa using hy.2
    simp [signaturePolymorphic, e1, e2]
  obtain ⟨b, hmem⟩ := memberRef_ask' (e := e) (vm := T.vm) (d := m.cls) (index := mIx kd) hk hfile (Or.inl (by rw [hpool]; exact o6)) (by rw [hpool]; exact o8)
  subst hg
  have hstep : ∀ target, (∀ acts, Steps p.tables e below (doInvoke e (T.setTop { g with stack := rest }) acts t argsL.toArray).1 target) → Steps p.tables e below (T.setTop g) target := fun target hrest => by
    jvm_step X.here [hexec, hdg, invokestatic.wp_ready (e := e) (s := T) (m := t) (k := tk) (meth := methM) (args := argsL) (rest := rest) (f := g) X.here.top ⟨_, _, _, b, _, tk, hmem, hclsR, htk, by simp [hpoly]⟩ hready hkP hmethM (hpoly _) hstatic hinitP (hlen _ hsigM) hstack]
    intro acts
    exact hrest acts
  rcases hK g.method meth c ⟨T, locs, cells, slots⟩ { g with stack := rest } (.invokestatic (mIx kd)) t argsL.toArray X rfl hsize hdg hW hnamed hpre with ⟨v, B, X', hpost, hsteps⟩ | ⟨q, B, X', hpost, hsteps⟩
  · exact Or.inl ⟨v, B, X', hpost, fun target h => hstep _ fun acts => by rw [doInvoke_state]; exact hsteps.trans h⟩
  · exact Or.inr ⟨q, B, X', hpost, hstep _ fun acts => by rw [doInvoke_state]; exact hsteps⟩
/-- the target's call, of an object -/
theorem hid_callV (X : Stand p l e R s m args below meth c T locs cells slots) (hexec : p.tables.exec = Jvm.exec) {kd : Nat} (h1 : 20 ≤ kd) (h2 : kd < 40) {y : MethodName} (hy9 : hY9 kd = y) {bytes : ByteArray} {maxL : Nat} {ret : Option FieldType}
    (hL : ∀ U : State, s.WarmedH U.vm → ∃ (k tk : Class) (file : ClassFile) (toy : ClassId) (t : MethodId), U.vm.classes[m.cls]? = some k ∧ k.cf = some file ∧ file.constantPool = (hD kd).constantPool ∧ U.vm.findClass (sG kd).implClass = some toy ∧ U.vm.classes[toy]? = some tk ∧ tk.isInterface = false ∧ ((methodIn toy (sG kd).implName (sG kd).implDesc.toString tk.isInterface none).ask { classPath := fun _ => none } U.vm).1 = .ok t ∧ U.vm.methodReady m.cls (mIx kd) t ∧ U.vm.classReady m.cls (cIx kd) toy)
    (hts : ∀ w ∈ lw_all, w.before args s = true) (q2 : Cond.instanceMethod y ∈ lw_all) (q3 : Cond.selects y.cls y y ∈ lw_all) (q5 : Cond.code y bytes maxL ret ∈ lw_all) (hy : y.cls ≠ "java/lang/invoke/MethodHandle" ∧ y.cls ≠ "java/lang/invoke/VarHandle")
    {W9 : Nat} {Pre : Pt → Array Value → Prop} {Post : Pt → Array Value → Option Value → Pt → Prop} {PostX : Pt → Array Value → Addr → Pt → Prop} (hK : vx_Back l R p e below s args y 3 W9 Pre Post PostX)
    {b : Addr} {cellB : Cell} (hcell : T.heap[b]? = some cellB) (hobj : cellB.vm = .none) (hclB : s.vm.findClass y.cls = some cellB.cls)
    {g : JFrame} (hg : g.method = m) (hsize : g.locals.size = c.maxLocals) {argsL rest : List Value} (hlen : ∀ sig, parseMethodDescriptor y.desc = some sig → argsL.length = sig.parameters.length)
    (hstack : g.stack = argsL.reverse ++ .ref b :: rest) (hW : 2 * g.monitorRoom + (rest.map fun v => v.category).sum ≤ W9) (hdg : decode c.code g.pc = .ok (.invokevirtual (mIx kd), 3))
    (hpre : Pre ⟨T, locs, cells, slots⟩ (Value.ref b :: argsL).toArray) :
    (∃ (v : Option Value) (B : Pt), Stand p l e R s m args below meth c B.U B.locs B.cells B.slots ∧ Post ⟨T, locs, cells, slots⟩ (Value.ref b :: argsL).toArray v B ∧
      ∀ target, Steps p.tables e below (B.U.setTop { g with pc := g.pc + 3, stack := v.toList ++ rest }) target → Steps p.tables e below (T.setTop g) target) ∨
    (∃ (q : Addr) (B : Pt), Stand p l e R s m args below meth c B.U B.locs B.cells B.slots ∧ PostX ⟨T, locs, cells, slots⟩ (Value.ref b :: argsL).toArray q B ∧
      Steps p.tables e below (T.setTop g) ((B.U.setTop { g with stack := rest }).pushFrame (.throwing q))) := by
  obtain ⟨-, -, -, -, -, o6, -, o8, -⟩ := lamOk h1 h2
  obtain ⟨k, tk, file, toy, t, hk, hfile, hpool, htoy, htk, hitf, hlook, hready, hclsR⟩ := hL T X.warmed
  have hcode : (Cond.code y bytes maxL ret).before args T = true := lw_warm hts X.warmed q5
  obtain ⟨mk, methM, hnamed, hmethM, hstM, habM⟩ := Cond.instanceMethod_spec (lw_warm (a' := args) hts X.warmed q2)
  obtain ⟨methM', cM, hmethM', -, -, -, -, -, -, hsigM⟩ := Cond.code_spec hnamed hcode
  cases hmethM.symm.trans hmethM'
  obtain ⟨c2, r2, m2, q1', q2', q3', q4', kP, hkP, hkPi⟩ := Cond.selects_spec (lw_warm (a' := args) hts X.warmed q3)
  have hclB' : T.vm.findClass y.cls = some cellB.cls := by rw [X.warmed.alike.findClass]; exact hclB
  cases hclB'.symm.trans q1'
  cases (State.methodFound?_of_named hnamed hy).symm.trans q2'
  cases hnamed.symm.trans q3'
  have hselP : selectMethod e.platform T.vm cellB.cls mk = .method mk := by rw [Launch.admits_selectMethod X.admits]; exact q4'
  have hmt : T.methodFound? y.cls y.name y.desc = some t := by
    subst hy9
    simp only [State.methodFound?, hY9]
    rw [htoy]
    simp only [Option.bind_eq_bind, Option.bind_some, htk, hlook]
    rfl
  cases (State.methodFound?_of_named hnamed hy).symm.trans hmt
  obtain ⟨kN, hkN, hkn⟩ := className_of_methodNamed hnamed
  cases hkN.symm.trans hkP
  have hpoly : ∀ x : Method, signaturePolymorphic kP x = false := fun x => by
    have e1 : (kP.name == "java/lang/invoke/MethodHandle") = false := by rw [hkn]; simpa using hy.1
    have e2 : (kP.name == "java/lang/invoke/VarHandle") = false := by rw [hkn]; simpa using hy.2
    simp [signaturePolymorphic, e1, e2]
  subst hg
  have hstep : ∀ target, (∀ acts, Steps p.tables e below (doInvoke e (T.setTop { g with stack := rest }) acts t (Value.ref b :: argsL).toArray).1 target) → Steps p.tables e below (T.setTop g) target := fun target hrest => by
    jvm_step X.here [hexec, hdg, invokevirtual.wp_ready (e := e) (s := T) (r := t) (m := t) (k := kP) (mk := kP) (rmeth := methM) (meth := methM) (a := b) (args := argsL) (rest := rest) (cell := cellB) (f := g) X.here.top ⟨k, file, cIx kd, _, toy, tk, hk, hfile, by rw [hpool]; exact o6, hclsR, htk, hitf⟩ hready hkP hmethM (hpoly _) hstM (hlen _ hsigM) hstack hcell (fun z h => by rw [hobj] at h; cases h) hselP hmethM habM hkP hkPi]
    intro acts
    exact hrest acts
  rcases hK g.method meth c ⟨T, locs, cells, slots⟩ { g with stack := rest } (.invokevirtual (mIx kd)) t (Value.ref b :: argsL).toArray X rfl hsize hdg hW hnamed hpre with ⟨v, B, X', hpost, hsteps⟩ | ⟨q, B, X', hpost, hsteps⟩
  · exact Or.inl ⟨v, B, X', hpost, fun target h => hstep _ fun acts => by rw [doInvoke_state]; exact hsteps.trans h⟩
  · exact Or.inr ⟨q, B, X', hpost, hstep _ fun acts => by rw [doInvoke_state]; exact hsteps⟩
end Hid
