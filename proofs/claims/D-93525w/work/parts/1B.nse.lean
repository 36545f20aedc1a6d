set_option maxRecDepth 100000
def nxAtoms (own : String) (ic : Nat) (X : String) (ix : Nat) (rx : ByteArray) (Y : String) (r : List String) : List Cond :=
  Bundle.throwableAtoms ++ Bundle.throwableSAtoms ++ (Bundle.passSAtoms X Y ix rx ++ Bundle.chainSAtoms Y r) ++
  [.methodLink own ic (Bundle.initS X), .instantiable X 6, .castable X X, .selects X Bundle.tFill0 Bundle.tFill0, .selects X Bundle.tFill Bundle.tFill,
   .lays X Bundle.tN "cause" "Ljava/lang/Throwable;", .lays X Bundle.tN "stackTrace" Bundle.steD, .lays X Bundle.tN "suppressedExceptions" Bundle.listD, .lays X Bundle.tN "detailMessage" "Ljava/lang/String;",
   .isRef (.static Bundle.tN "UNASSIGNED_STACK" Bundle.steD), .isRef (.static Bundle.tN "SUPPRESSED_SENTINEL" Bundle.listD),
   .fieldLink Bundle.tN 198 Bundle.tN "backtrace" "Ljava/lang/Object;", .lays Bundle.tN Bundle.tN "backtrace" "Ljava/lang/Object;", .lays X Bundle.tN "backtrace" "Ljava/lang/Object;"]
section NX
variable {p : Program} {l : Launch} {e : Env} {R : Room} {s : State} {m₀ : MethodId} {args : Array Value} {below : List Frame} {meth : Method} {c : Code} {W : State} {locs : List Loc} {cells slots : Nat}
set_option maxHeartbeats 1000000 in
theorem nx_ctorMadeS (X : Stand p l e R s m₀ args below meth c W locs cells slots) (hexec : p.tables.exec = Jvm.exec) (htr : e.platform.stackTraces = false) {own cls Y9 : String} {r9 : List String} {ic ix : Nat} {rx : ByteArray} (x0 : decode rx 0 = .ok (.aload_n 0, 1)) (x1 : decode rx 1 = .ok (.aload_n 1, 1)) (x2 : decode rx 2 = .ok (.invokespecial ix, 3)) (x5 : decode rx 5 = .ok (.return_, 1)) (hY9 : Bundle.fit Y9 = true)
    (hown : s.vm.findClass own = some m₀.cls) (hcls : Bundle.fit cls = true) (hnames : ∀ n ∈ r9, Bundle.fit n = true)
    (h : ∀ a ∈ nxAtoms own ic cls ix rx Y9 r9, a.before args s = true)
    (hlocs : ∀ x ∈ locs, ∀ cell, s.heap[x.base]? = some cell → cell.vm.isStatics = false)
    {a : Addr} {cX : ClassId} {kX : Class} (hfoundX : s.vm.findClass cls = some cX) (hkX : s.vm.classes[cX]? = some kX) (hcell : W.heap[a]? = some (freshCell cX kX)) (hnew : s.heap.size ≤ a)
    {msg : Value} (hmsg : msg.isRef = true)
    {g : JFrame} (hg : g.method = m₀) (hsize : g.locals.size = c.maxLocals) {rest : List Value} (hstack : g.stack = msg :: .ref a :: .ref a :: rest)
    (hd6 : decode c.code g.pc = .ok (.invokespecial ic, 3))
    (hRframes : (Y9 :: r9).length + 3 < R.frames) (hRlocals : 2 * g.monitorRoom + ((Value.ref a :: rest).map fun v => v.category).sum + (13 * ((Y9 :: r9).length + 1) + 42) ≤ R.locals) :
    ∃ (V : State) (ce : Cell) (L : List Loc), Stand p l e R s m₀ args below meth c (V.setCell a ce) (locs ++ L) cells slots ∧ (∀ y ∈ L, y.base = a) ∧ a < V.heap.size ∧ ce.cls = cX ∧ ce.vm = .none ∧
      ∀ target, Steps p.tables e below ((V.setCell a ce).setTop { g with stack := .ref a :: rest, pc := g.pc + 3 }) target → Steps p.tables e below (W.setTop g) target := by
  have howns : e.platform.frameOwnsMonitors = true := by rw [X.admits.platform]
  have hfin : e.platform.finalization = false := by rw [X.admits.platform]
  have hpl : e.platform.magicAccessors = ({} : Platform).magicAccessors := by rw [X.admits.platform]
  have a' : ∀ x, x ∈ nxAtoms own ic cls ix rx Y9 r9 → x.holds args s none s [] = true := fun x hx => h x hx
  obtain ⟨T, Z0, L, -, Y⟩ := ThrowableC.of_atoms (args := args) howns hfin hpl (fun x hx => h x (by simp [nxAtoms, hx]))
  obtain ⟨Z, M, LZ, LM, hnZ⟩ := Init0T.ofS_atoms (args := args) hpl L Y (fun x hx => h x (by simp [nxAtoms, hx]))
  obtain ⟨P1, L1, hP1m, hs9⟩ := PassC.ofS_atoms (args := args) (s := s) hpl (X := cls) (Y := Y9) (Bundle.fit_spec hcls).1 (Bundle.fit_spec hY9).2 x0 x1 x2 x5 (fun x hx => h x (by simp [nxAtoms, hx]))
  obtain ⟨P9, Ps9, hlen9, L9, hL9, hm9, hsup9, hpass9⟩ := Bundle.chainS (args := args) hpl hnZ r9 Y9 hY9 hnames (fun x hx => h x (by simp [nxAtoms, hx]))
  obtain ⟨Ps, hPs⟩ : ∃ z, z = P9 :: Ps9 := ⟨_, rfl⟩
  have hlen : Ps.length = (Y9 :: r9).length := by rw [hPs]; simp [hlen9]
  have hL : ∀ P, P ∈ Ps → P.LinksS e.platform s := by
    rw [hPs]
    intro Q9 hQ9
    rcases List.mem_cons.mp hQ9 with rfl | hQ9
    · exact L9
    · exact hL9 Q9 hQ9
  have hlink1 : P1.sup = firstOf (Z.m T.toThrowableT) (Ps.map (·.toPassT)) := by rw [hPs]; exact Option.some.inj (hs9.symm.trans hm9)
  have hlink : PassesOn (Z.m T.toThrowableT) (Ps.map (·.toPassT)) := by rw [hPs]; exact ⟨hsup9, hpass9⟩
  have hfound : s.vm.findClass cls = some P1.m.cls := findClass_of_methodNamed hP1m
  cases Option.some.inj (hfoundX.symm.trans hfound)
  obtain ⟨c1, kX', hc1, hk, hord, -, -, hn6⟩ := Cond.instantiable_spec (a' (.instantiable cls 6) (by simp [nxAtoms]))
  cases Option.some.inj (hc1.symm.trans hfound)
  cases Option.some.inj (hkX.symm.trans hk)
  have hsel0 : selectMethod e.platform s.vm P1.m.cls T.fill0 = .method T.fill0 := by
    obtain ⟨c2, r2, m2, q1, q2, q3, q4, -⟩ := Cond.selects_spec (a' (.selects cls Bundle.tFill0 Bundle.tFill0) (by simp [nxAtoms]))
    cases Option.some.inj (q1.symm.trans hfound)
    cases Option.some.inj (q2.symm.trans (State.methodFound?_of_named Y.fill0 (by decide)))
    cases Option.some.inj (q3.symm.trans Y.fill0)
    rw [Launch.admits_selectMethod X.admits]; exact q4
  have hselF : selectMethod e.platform s.vm P1.m.cls T.fill = .method T.fill := by
    obtain ⟨c2, r2, m2, q1, q2, q3, q4, -⟩ := Cond.selects_spec (a' (.selects cls Bundle.tFill Bundle.tFill) (by simp [nxAtoms]))
    cases Option.some.inj (q1.symm.trans hfound)
    cases Option.some.inj (q2.symm.trans (State.methodFound?_of_named Y.fill (by decide)))
    cases Option.some.inj (q3.symm.trans Y.fill)
    rw [Launch.admits_selectMethod X.admits]; exact q4
  obtain ⟨cellS0, hcS0, hiss⟩ := Y.statics
  obtain ⟨u0, hu0⟩ := Cond.staticRefV Y.unassigned L.unassignedStatic L.statics hcS0 hiss (a' (.isRef (.static Bundle.tN "UNASSIGNED_STACK" Bundle.steD)) (by simp [nxAtoms]))
  obtain ⟨sen, hsen⟩ := Cond.staticRefV Y.sentinel L.sentinelStatic L.statics hcS0 hiss (a' (.isRef (.static Bundle.tN "SUPPRESSED_SENTINEL" Bundle.listD)) (by simp [nxAtoms]))
  obtain ⟨ci198, i198, fB, hk198, hg198, ha198, hsB, -, hnB, htB, hffB⟩ := Cond.ownField (t := .object "java/lang/Object") Y.found L.cls (by decide +kernel) (a' (.fieldLink Bundle.tN 198 Bundle.tN "backtrace" "Ljava/lang/Object;") (by simp [nxAtoms])) (a' (.lays Bundle.tN Bundle.tN "backtrace" "Ljava/lang/Object;") (by simp [nxAtoms])) e.platform hpl
  obtain ⟨cellS, hcS', heS, -, hkeep⟩ := X.same.2.2.2.2.2 T.aS cellS0 hcS0
  have hcellS : W.heap[T.aS]? = some cellS := hcS'
  have hout' : ∀ i, (⟨T.aS, i⟩ : Loc) ∉ locs := fun i hmem => by
    have := hlocs _ hmem cellS0 hcS0
    rw [hiss] at this; cases this
  have hknownS : cellS.vm ≠ .unknown := by
    rw [heS]; intro hu
    rw [show cellS0.vm = .unknown from hu] at hiss
    cases hiss
  have hneS : T.aS ≠ a := Nat.ne_of_lt (Nat.lt_of_lt_of_le (Array.getElem?_eq_some_iff.mp hcS0).1 hnew)
  obtain ⟨iM, hffM⟩ := Y.msg
  obtain ⟨tyC, dC, hdC, hdnC⟩ := Cond.laysAt hfound hk Y.cause (a' (.lays cls Bundle.tN "cause" "Ljava/lang/Throwable;") (by simp [nxAtoms]))
  obtain ⟨tyS, dS, hdS, hdnS⟩ := Cond.laysAt hfound hk Y.stack (a' (.lays cls Bundle.tN "stackTrace" Bundle.steD) (by simp [nxAtoms]))
  obtain ⟨tyP, dP, hdP, hdnP⟩ := Cond.laysAt hfound hk Y.supp (a' (.lays cls Bundle.tN "suppressedExceptions" Bundle.listD) (by simp [nxAtoms]))
  obtain ⟨tyM, dM, hdM, hdnM⟩ := Cond.laysAt hfound hk hffM (a' (.lays cls Bundle.tN "detailMessage" "Ljava/lang/String;") (by simp [nxAtoms]))
  obtain ⟨tyB, dB, hdB, hdnB⟩ := Cond.laysAt hfound hk hffB (a' (.lays cls Bundle.tN "backtrace" "Ljava/lang/Object;") (by simp [nxAtoms]))
  have bC := Cond.laysApart hdB hdC hdnB hdnC (by rw [hnB, Y.causeName]; decide)
  have bS := Cond.laysApart hdB hdS hdnB hdnS (by rw [hnB, Y.stackName]; decide)
  have bP := Cond.laysApart hdB hdP hdnB hdnP (by rw [hnB, Y.suppName]; decide)
  have hskip : SkipFacts T e.platform s (fun u => u) u0 ((preparedCellV T.toThrowableT (freshCell P1.m.cls kX) a u0 sen).withEntry W.cur) :=
    ⟨{ ci198 := ci198, i198 := i198, fBack := fB }, ⟨hk198, hg198, ha198, hsB⟩, by
      have := fresh_default (c := P1.m.cls) tyB
      rw [htB] at this
      simpa [preparedCellV, Cell.setSlot, Cell.withEntry, Array.getElem?_setIfInBounds, bC, bS, bP, bC.symm, bS.symm, bP.symm, defaultValue] using this, fun _ _ => rfl⟩
  obtain ⟨tm, methC, cdC, kC, vm₁, hnC, -, -, -, -, -, -, -, hW₁, st1⟩ := Steps.initColdS (tb := p.tables) (e := e) (below := below) (s := s) (U := W) X.here hexec X.warmed hpl hown (t := Bundle.initS cls) rfl rfl (Bundle.fit_spec hcls).2
    (a' (.methodLink own ic (Bundle.initS cls)) (by simp [nxAtoms])) (h (.instanceMethod (Bundle.initS cls)) (by simp [nxAtoms, Bundle.passSAtoms])) (bytes := rx) (maxL := 2) (h (.code (Bundle.initS cls) rx 2 none) (by simp [nxAtoms, Bundle.passSAtoms]))
    (f := g) hg (a := a) (msg := msg) (rest := .ref a :: rest) hstack hd6
  cases Option.some.inj (hnC.symm.trans hP1m)
  have X₁ := X.noted hW₁
  obtain ⟨vm₂, X₂, st2⟩ := X₁.ctorMessageOffV hexec (g := { g with stack := .ref a :: rest }) hg hsize T L Z LZ M LM (P1 :: Ps)
    (fun P hP => by rcases List.mem_cons.mp hP with rfl | hP; exact L1; exact hL P hP) ⟨hlink1, hlink⟩ (u0 := u0) (sen := sen) (self := a) hmsg (cell := freshCell P1.m.cls kX) (cellS := cellS)
    hcell (fun _ => by simp) (by simp) rfl rfl hsel0 hselF hcellS hneS hknownS (by rw [hkeep _ (hout' _)]; exact hu0) (by rw [hkeep _ (hout' _)]; exact hsen)
    (Takes.of_laid hk hord tyC (by rw [Y.causeType]; rfl)) (Takes.of_laid hk hord tyS (by rw [Y.stackType]; exact fits_refV_array _ u0)) (Takes.of_laid hk hord tyP (by rw [Y.suppType]; exact fits_refV_object _ sen))
    (Takes.of_laid hk hord tyM (by rw [Y.msgType]; exact fits_refV_object _ ⟨msg, hmsg⟩)) Y.objLocals hskip htr [] hd6
    (by simp only [List.length_cons, hlen]; omega) (by simp only [List.length_cons, hlen]; exact hRlocals)
  have hlt : a < ((W.setVm vm₁).setVm vm₂).heap.size := (Array.getElem?_eq_some_iff.mp hcell).1
  refine ⟨(W.setVm vm₁).setVm vm₂, _, _, X₂, fun y hy => ?_, hlt, rfl, rfl, fun target hwalk => st1 _ (fun acts => ?_)⟩
  · simp only [List.mem_cons, List.not_mem_nil, or_false] at hy
    rcases hy with rfl | rfl | rfl | rfl | rfl <;> rfl
  · rw [doInvoke_state]
    exact st2 _ hwalk

end NX
section NXJ
variable {α β : Type} {C : Cw} {rr : α → Wd → Outcome → Prop} {X : Option (Wd × α)} {cc : ByteArray} {own : String} {d : Nat} {w : Wd} {pc : Nat} {lv : Lv} {st st0 : List AV}
/-- 'new E(text)', the object stays on the stack -/
theorem j_mkSN {cls text : String} {kd ik is ic : Nat} (K : Cx C cc own d) (hE : excN kd = some cls) (hcls : Bundle.fit cls = true)
    (hk : Cond.classLink own ik cls ∈ lw_all) (hini : Cond.initialized cls ∈ lw_all) (hstr : Cond.stringRef own is text ∈ lw_tbl) (hat1 : ∀ w ∈ (((nxAtoms own ic cls 13 cJ6_init "java/lang/RuntimeException" ["java/lang/Exception"]).filter vx_no)).filter goodWord, w ∈ lw_all) (hat2 : ∀ w ∈ (((nxAtoms own ic cls 13 cJ6_init "java/lang/RuntimeException" ["java/lang/Exception"]).filter vx_no)).filter (fun w => !goodWord w), w ∈ lw_tbl ∧ nst w = true)
    (hgood : (Cond.classLink own ik cls :: Cond.initialized cls :: (nxAtoms own ic cls 13 cJ6_init "java/lang/RuntimeException" ["java/lang/Exception"]).filter vx_no).all vx_ot = true) (h40 : (Nat.blt 39 kd && Nat.blt kd 50) = true)
    (d0 : decode cc pc = .ok (.new ik, 3)) (d3 : decode cc (pc + 3) = .ok (.dup, 1)) (d4 : decode cc (pc + 4) = .ok (.ldc is, 2)) (d6 : decode cc (pc + 6) = .ok (.invokespecial ic, 3))
    (hd8 : 8 ≤ d) (hrm : room w 6 = true) (hw : Nat.ble (stW st) 8 = true) (kk : Jf C rr X (nw w kd 0 6) (pc + 9) lv (aR kd (some (gN w)) :: st)) : Jf C rr X w pc lv st := by
  intro res hX H locs cells slots ls hI
  obtain ⟨sa, hsa⟩ := K.en.2.1.2.2.1 own is text hstr
  have hrm' := room_spec hrm
  have t9 := blt2 h40
  have hS9 : SlotSum (xB (cG C)) H + 6 ≤ LIMS := Nat.le_trans (Nat.add_le_add_right hI.inv.2.2.2.2.2.1 6) hrm'.2
  refine W.shrink (xB (cG C)) K.b0 (fun h7 h8 => ?_)
  obtain ⟨hRcells, hRslots⟩ := hI.room K h7 h8 (a := 1) (b := 6) hrm'.1 hS9
  have hfr := K.fr
  have hlo := K.lo
  have hw' := Nat.le_of_ble_eq_true hw
  have hat : ∀ w ∈ (nxAtoms own ic cls 13 cJ6_init "java/lang/RuntimeException" ["java/lang/Exception"]).filter vx_no, w.before (mA (cM C)) (mS (cM C)) = true := fun w hw => by
    cases hg : goodWord w with
    | true => exact K.ts w (hat1 w (List.mem_filter.mpr ⟨hw, hg⟩))
    | false =>
      obtain ⟨z1, z2⟩ := hat2 w (List.mem_filter.mpr ⟨hw, by rw [hg]; rfl⟩)
      have h3 := K.en.2.1.1 w z1 z2
      have h4 : w.onTables = true := by
        match w, z2 with
        | .castable _ _, _ => rfl
        | .declares _, _ => rfl
        | .fieldLinkNest _ _ _ _ _ _, _ => rfl
        | .methodLinkNest _ _ _ _, _ => rfl
      exact va_Nw.use h4 h3
  have hgood' : ∀ w ∈ Cond.classLink own ik cls :: Cond.initialized cls :: (nxAtoms own ic cls 13 cJ6_init "java/lang/RuntimeException" ["java/lang/Exception"]).filter vx_no, vx_ot w = true := List.all_eq_true.mp hgood
  have base : ∀ q : Nat, q < (xH (cG C)).size → ¬ (xN (cG C)) q → H[q]? = (xH (cG C))[q]? := fun q hq _ => hI.inv.2.2.2.2.1 q (by rw [← K.gw.2.2]; exact hq)
  intro T hT X0
  subst hT
  have htr : (mE (cM C)).platform.stackTraces = false := (show (mE (cM C)).platform.stackTraces = (mL (cM C)).stackTraces by rw [X0.admits.platform]).trans K.tr
  have Y := vx_rebase X0 (R' := { frames := (mR (cM C)).frames, locals := (mR (cM C)).locals, cells := 1, slots := 6 }) (Nat.le_refl _) (Nat.le_refl _) hRcells hRslots
  obtain ⟨s', hA'⟩ : ∃ z, z = (T.setVm (mS (cM C)).vm).setFrames (.invoking (mM (cM C)) (mA (cM C)) :: (mB (cM C))) := ⟨_, rfl⟩
  rw [← hA'] at Y
  have hvm : s'.vm = (mS (cM C)).vm := by rw [hA']; rfl
  have hhp : s'.heap = T.heap := by rw [hA']; rfl
  have hW0 : (mS (cM C)).WarmedH s'.vm := by rw [hvm]; exact State.WarmedH.refl _
  have hat' : ∀ w ∈ (nxAtoms own ic cls 13 cJ6_init "java/lang/RuntimeException" ["java/lang/Exception"]).filter vx_no, w.before (mA (cM C)) s' = true := fun w hw => vx_ot_at hW0 hvm.symm (hgood' w (List.mem_cons_of_mem _ (List.mem_cons_of_mem _ hw))) (hat w hw)
  have hk' : (Cond.classLink own ik cls).before (mA (cM C)) s' = true := vx_ot_at hW0 hvm.symm (hgood' _ List.mem_cons_self) (K.ts _ hk)
  have hini' : (Cond.initialized cls).before (mA (cM C)) s' = true := vx_ot_at hW0 hvm.symm (hgood' _ (List.mem_cons_of_mem _ List.mem_cons_self)) (K.ts _ hini)
  have hU' : vx_Zq Bundle.tN "UNASSIGNED_STACK" Bundle.steD (xN (cG C)) s' s'.heap := by rw [hhp]; exact vx_Zq.moved hW0.alike (K.en.2.1.2.2.2.1.1.kept base)
  have hN' : vx_Zq Bundle.tN "SUPPRESSED_SENTINEL" Bundle.listD (xN (cG C)) s' s'.heap := by rw [hhp]; exact vx_Zq.moved hW0.alike (K.en.2.1.2.2.2.1.2.1.kept base)
  have h : ∀ w ∈ nxAtoms own ic cls 13 cJ6_init "java/lang/RuntimeException" ["java/lang/Exception"], w.before (mA (cM C)) s' = true := vx_own hat' (vx_isRefq hU'.1) (vx_isRefq hN'.1) hU'.2.word hN'.2.word
  have hown' : s'.vm.findClass own = some (mM (cM C)).cls := by rw [hvm]; exact K.ow
  have hins : (Cond.instantiable cls 6).before (mA (cM C)) s' = true := h _ (by simp [nxAtoms])
  obtain ⟨vm₁, cX, kX, hfX, hkX, -, hks, X₁, st1⟩ := Y.newCold K.ex (own := own) (C := cls) (index := ik) (n := 6) hown' hk' hins hini'
    (g := F0 (mM (cM C)) pc ls (st.map (cv (cG C)))) rfl (by rw [K.cb]; exact d0) (Nat.le_refl _) (Nat.le_refl _)
  generalize hT1 : (T.setVm vm₁).pushCell { cls := cX, slots := kX.instanceTypes.map defaultValue, vm := .none } = T1 at X₁ st1
  have hcat : (Value.ref T.heap.size).category = 1 := rfl
  have hcellA : T1.heap[T.heap.size]? = some (freshCell cX kX) := by rw [← hT1]; exact State.heap_pushCell_size _ _
  have d3' : decode (mC (cM C)).code (pc + 3) = .ok (.dup, 1) := by rw [K.cb]; exact d3
  have d4' : decode (mC (cM C)).code (pc + 4) = .ok (.ldc is, 2) := by rw [K.cb]; exact d4
  have hstr' : vk_R own is text sa s' := vk_R.warm hW0 hsa
  obtain ⟨V, ce, L, Z, hL, hlt, hcl9, hvm9, stp⟩ := nx_ctorMadeS X₁ K.ex htr (own := own) (cls := cls) (Y9 := "java/lang/RuntimeException") (r9 := ["java/lang/Exception"]) (ic := ic) (ix := 13) (rx := cJ6_init) dJ6_init_0 dJ6_init_1 dJ6_init_2 dJ6_init_5 (by decide +kernel) hown' hcls (by decide +kernel) h (fun x hx => nomatch hx) hfX hkX hcellA (by rw [hhp]; exact Nat.le_refl _) (msg := .ref sa) rfl
    (g := { method := (mM (cM C)), pc := pc + 6, locals := ls, stack := .ref sa :: .ref T.heap.size :: .ref T.heap.size :: st.map (cv (cG C)), locked := none }) rfl (hI.lo.1.trans K.ml.symm) (rest := st.map (cv (cG C))) rfl
    (by rw [K.cb]; exact d6) (by show 2 + 3 < (mR (cM C)).frames; omega) (by
      have e9 := stW_sum (cG C) st
      simp only [List.map_cons, List.sum_cons, hcat]
      show 2 * 0 + (1 + _) + (13 * (2 + 1) + 42) ≤ (mR (cM C)).locals
      omega)
  have Z0 := Stand.forget (locs := []) Z (fun y hy => by rw [hL y hy, hhp]; exact Nat.le_refl _)
  obtain ⟨f1, f2⟩ := vx_frame Z0.same
  have f3 : (V.setCell T.heap.size ce).heap.size ≤ s'.heap.size + (0 + 1) := Z0.same.2.2.1
  have f4 : (((V.setCell T.heap.size ce).heap.toList.drop s'.heap.size).map (·.slots.size)).sum ≤ 0 + 6 := Z0.same.2.2.2.2.1
  rw [hhp] at f1 f2 f3 f4
  have hcid : ce.cls = xK (cG C) kd := by
    rw [hcl9]
    rw [hvm] at hfX
    exact Option.some.inj (hfX.symm.trans (K.en.2.1.2.2.2.2.1 kd cls hE))
  have hh : (V.setCell T.heap.size ce).heap[T.heap.size]? = some ce := heapAt_setCell_self (s := V) ce hlt
  have hsz : (V.setCell T.heap.size ce).heap.size = T.heap.size + 1 := by
    have := (Array.getElem?_eq_some_iff.mp hh).1
    omega
  have hpush : (V.setCell T.heap.size ce).heap = T.heap.push ce := by
    apply Array.ext_getElem?
    intro i
    rw [Array.getElem?_push]
    by_cases e1 : i = T.heap.size
    · rw [if_pos e1, e1, hh]
    · rw [if_neg e1]
      by_cases e2 : i < T.heap.size
      · exact f2 i e2 (fun z hz => nomatch hz)
      · have a1 : (V.setCell T.heap.size ce).heap[i]? = none := Array.getElem?_eq_none (by omega)
        have a2 : T.heap[i]? = none := Array.getElem?_eq_none (by omega)
        rw [a1, a2]
  have hce6 : ce.slots.size ≤ 6 := by
    rw [hpush, Array.toList_push, List.drop_append_of_le_length (by simp), List.map_append, List.sum_append] at f4
    simp at f4
    omega
  subst hA'
  have X5 := vx_back9 X0 Y Z0
  obtain ⟨hinv, hix⟩ := hI.inv.new (kd := kd) (ln := 0) (sl := 6) (c := ce) K.gw (Or.inr ⟨ce, rfl, hvm9, hcid, fun z => absurd z (by omega), fun _ z => absurd z (by omega)⟩) hce6 hrm'.1 hrm'.2
  have hnx : Nx w (nw w kd 0 6) := nx_nw (Nx.rf w) kd 0 6
  have hty : Ty (nw w kd 0 6) kd (some (gN w)) := fun b e => by
    cases e
    refine ⟨Nat.lt_succ_self _, ?_⟩
    rw [gK_nw, if_pos rfl]
    unfold okT
    rw [if_pos t9.2]
    simp
  obtain ⟨t, a1, b1⟩ := kk res hX (V.setCell T.heap.size ce).heap locs _ _ ls ⟨by rw [hpush]; exact hinv, fun e => fx_nw (hI.fx e) kd 0 6, hI.nx.tr hnx, hI.lc, hI.lo.nx hnx, okc hty (fun u hu => (hI.ok u hu).nx hnx)⟩ (V.setCell T.heap.size ce) rfl X5
  refine ⟨t, st1 _ ?_, b1⟩
  show Steps (mP (cM C)).tables (mE (cM C)) (mB (cM C)) (T1.setTop { method := (mM (cM C)), pc := pc + 3, locals := ls, stack := .ref T.heap.size :: st.map (cv (cG C)), locked := none }) _
  jvm_step X₁.here [X₁.here.top, K.ex, d3', Value.category]
  refine X₁.ldcString K.ex (own := own) (text := text) (index := is) (a := sa) hown' hstr'.1 hstr'.2
    (g := { method := (mM (cM C)), pc := pc + 4, locals := ls, stack := .ref T.heap.size :: .ref T.heap.size :: st.map (cv (cG C)), locked := none }) rfl d4' _ (stp _ ?_)
  have e5 : cv (cG C) (aR kd (some (gN w))) = .ref T.heap.size := by
    show va_rf (some (xA (cG C) (gN w))) = _
    rw [hix]
    rfl
  rw [List.map_cons, e5] at a1
  exact a1
/-- 'new E(text)', the object stays on the stack -/
theorem j_mkWN {cls text : String} {kd ik is ic : Nat} (K : Cx C cc own d) (hE : excN kd = some cls) (hcls : Bundle.fit cls = true)
    (hk : Cond.classLink own ik cls ∈ lw_all) (hini : Cond.initialized cls ∈ lw_all) (hstr : Cond.stringRef own is text ∈ lw_tbl) (hat1 : ∀ w ∈ (((nxAtoms own ic cls 13 cJ6_init "java/lang/RuntimeException" ["java/lang/Exception"]).filter vx_no)).filter goodWord, w ∈ lw_all) (hat2 : ∀ w ∈ (((nxAtoms own ic cls 13 cJ6_init "java/lang/RuntimeException" ["java/lang/Exception"]).filter vx_no)).filter (fun w => !goodWord w), w ∈ lw_tbl ∧ nst w = true)
    (hgood : (Cond.classLink own ik cls :: Cond.initialized cls :: (nxAtoms own ic cls 13 cJ6_init "java/lang/RuntimeException" ["java/lang/Exception"]).filter vx_no).all vx_ot = true) (h40 : (Nat.blt 39 kd && Nat.blt kd 50) = true)
    (d0 : decode cc pc = .ok (.new ik, 3)) (d3 : decode cc (pc + 3) = .ok (.dup, 1)) (d4 : decode cc (pc + 4) = .ok (.ldc_w is, 3)) (d6 : decode cc (pc + 7) = .ok (.invokespecial ic, 3))
    (hd8 : 8 ≤ d) (hrm : room w 6 = true) (hw : Nat.ble (stW st) 8 = true) (kk : Jf C rr X (nw w kd 0 6) (pc + 10) lv (aR kd (some (gN w)) :: st)) : Jf C rr X w pc lv st := by
  intro res hX H locs cells slots ls hI
  obtain ⟨sa, hsa⟩ := K.en.2.1.2.2.1 own is text hstr
  have hrm' := room_spec hrm
  have t9 := blt2 h40
  have hS9 : SlotSum (xB (cG C)) H + 6 ≤ LIMS := Nat.le_trans (Nat.add_le_add_right hI.inv.2.2.2.2.2.1 6) hrm'.2
  refine W.shrink (xB (cG C)) K.b0 (fun h7 h8 => ?_)
  obtain ⟨hRcells, hRslots⟩ := hI.room K h7 h8 (a := 1) (b := 6) hrm'.1 hS9
  have hfr := K.fr
  have hlo := K.lo
  have hw' := Nat.le_of_ble_eq_true hw
  have hat : ∀ w ∈ (nxAtoms own ic cls 13 cJ6_init "java/lang/RuntimeException" ["java/lang/Exception"]).filter vx_no, w.before (mA (cM C)) (mS (cM C)) = true := fun w hw => by
    cases hg : goodWord w with
    | true => exact K.ts w (hat1 w (List.mem_filter.mpr ⟨hw, hg⟩))
    | false =>
      obtain ⟨z1, z2⟩ := hat2 w (List.mem_filter.mpr ⟨hw, by rw [hg]; rfl⟩)
      have h3 := K.en.2.1.1 w z1 z2
      have h4 : w.onTables = true := by
        match w, z2 with
        | .castable _ _, _ => rfl
        | .declares _, _ => rfl
        | .fieldLinkNest _ _ _ _ _ _, _ => rfl
        | .methodLinkNest _ _ _ _, _ => rfl
      exact va_Nw.use h4 h3
  have hgood' : ∀ w ∈ Cond.classLink own ik cls :: Cond.initialized cls :: (nxAtoms own ic cls 13 cJ6_init "java/lang/RuntimeException" ["java/lang/Exception"]).filter vx_no, vx_ot w = true := List.all_eq_true.mp hgood
  have base : ∀ q : Nat, q < (xH (cG C)).size → ¬ (xN (cG C)) q → H[q]? = (xH (cG C))[q]? := fun q hq _ => hI.inv.2.2.2.2.1 q (by rw [← K.gw.2.2]; exact hq)
  intro T hT X0
  subst hT
  have htr : (mE (cM C)).platform.stackTraces = false := (show (mE (cM C)).platform.stackTraces = (mL (cM C)).stackTraces by rw [X0.admits.platform]).trans K.tr
  have Y := vx_rebase X0 (R' := { frames := (mR (cM C)).frames, locals := (mR (cM C)).locals, cells := 1, slots := 6 }) (Nat.le_refl _) (Nat.le_refl _) hRcells hRslots
  obtain ⟨s', hA'⟩ : ∃ z, z = (T.setVm (mS (cM C)).vm).setFrames (.invoking (mM (cM C)) (mA (cM C)) :: (mB (cM C))) := ⟨_, rfl⟩
  rw [← hA'] at Y
  have hvm : s'.vm = (mS (cM C)).vm := by rw [hA']; rfl
  have hhp : s'.heap = T.heap := by rw [hA']; rfl
  have hW0 : (mS (cM C)).WarmedH s'.vm := by rw [hvm]; exact State.WarmedH.refl _
  have hat' : ∀ w ∈ (nxAtoms own ic cls 13 cJ6_init "java/lang/RuntimeException" ["java/lang/Exception"]).filter vx_no, w.before (mA (cM C)) s' = true := fun w hw => vx_ot_at hW0 hvm.symm (hgood' w (List.mem_cons_of_mem _ (List.mem_cons_of_mem _ hw))) (hat w hw)
  have hk' : (Cond.classLink own ik cls).before (mA (cM C)) s' = true := vx_ot_at hW0 hvm.symm (hgood' _ List.mem_cons_self) (K.ts _ hk)
  have hini' : (Cond.initialized cls).before (mA (cM C)) s' = true := vx_ot_at hW0 hvm.symm (hgood' _ (List.mem_cons_of_mem _ List.mem_cons_self)) (K.ts _ hini)
  have hU' : vx_Zq Bundle.tN "UNASSIGNED_STACK" Bundle.steD (xN (cG C)) s' s'.heap := by rw [hhp]; exact vx_Zq.moved hW0.alike (K.en.2.1.2.2.2.1.1.kept base)
  have hN' : vx_Zq Bundle.tN "SUPPRESSED_SENTINEL" Bundle.listD (xN (cG C)) s' s'.heap := by rw [hhp]; exact vx_Zq.moved hW0.alike (K.en.2.1.2.2.2.1.2.1.kept base)
  have h : ∀ w ∈ nxAtoms own ic cls 13 cJ6_init "java/lang/RuntimeException" ["java/lang/Exception"], w.before (mA (cM C)) s' = true := vx_own hat' (vx_isRefq hU'.1) (vx_isRefq hN'.1) hU'.2.word hN'.2.word
  have hown' : s'.vm.findClass own = some (mM (cM C)).cls := by rw [hvm]; exact K.ow
  have hins : (Cond.instantiable cls 6).before (mA (cM C)) s' = true := h _ (by simp [nxAtoms])
  obtain ⟨vm₁, cX, kX, hfX, hkX, -, hks, X₁, st1⟩ := Y.newCold K.ex (own := own) (C := cls) (index := ik) (n := 6) hown' hk' hins hini'
    (g := F0 (mM (cM C)) pc ls (st.map (cv (cG C)))) rfl (by rw [K.cb]; exact d0) (Nat.le_refl _) (Nat.le_refl _)
  generalize hT1 : (T.setVm vm₁).pushCell { cls := cX, slots := kX.instanceTypes.map defaultValue, vm := .none } = T1 at X₁ st1
  have hcat : (Value.ref T.heap.size).category = 1 := rfl
  have hcellA : T1.heap[T.heap.size]? = some (freshCell cX kX) := by rw [← hT1]; exact State.heap_pushCell_size _ _
  have d3' : decode (mC (cM C)).code (pc + 3) = .ok (.dup, 1) := by rw [K.cb]; exact d3
  have d4' : decode (mC (cM C)).code (pc + 4) = .ok (.ldc_w is, 3) := by rw [K.cb]; exact d4
  have hstr' : vk_R own is text sa s' := vk_R.warm hW0 hsa
  obtain ⟨V, ce, L, Z, hL, hlt, hcl9, hvm9, stp⟩ := nx_ctorMadeS X₁ K.ex htr (own := own) (cls := cls) (Y9 := "java/lang/RuntimeException") (r9 := ["java/lang/Exception"]) (ic := ic) (ix := 13) (rx := cJ6_init) dJ6_init_0 dJ6_init_1 dJ6_init_2 dJ6_init_5 (by decide +kernel) hown' hcls (by decide +kernel) h (fun x hx => nomatch hx) hfX hkX hcellA (by rw [hhp]; exact Nat.le_refl _) (msg := .ref sa) rfl
    (g := { method := (mM (cM C)), pc := pc + 7, locals := ls, stack := .ref sa :: .ref T.heap.size :: .ref T.heap.size :: st.map (cv (cG C)), locked := none }) rfl (hI.lo.1.trans K.ml.symm) (rest := st.map (cv (cG C))) rfl
    (by rw [K.cb]; exact d6) (by show 2 + 3 < (mR (cM C)).frames; omega) (by
      have e9 := stW_sum (cG C) st
      simp only [List.map_cons, List.sum_cons, hcat]
      show 2 * 0 + (1 + _) + (13 * (2 + 1) + 42) ≤ (mR (cM C)).locals
      omega)
  have Z0 := Stand.forget (locs := []) Z (fun y hy => by rw [hL y hy, hhp]; exact Nat.le_refl _)
  obtain ⟨f1, f2⟩ := vx_frame Z0.same
  have f3 : (V.setCell T.heap.size ce).heap.size ≤ s'.heap.size + (0 + 1) := Z0.same.2.2.1
  have f4 : (((V.setCell T.heap.size ce).heap.toList.drop s'.heap.size).map (·.slots.size)).sum ≤ 0 + 6 := Z0.same.2.2.2.2.1
  rw [hhp] at f1 f2 f3 f4
  have hcid : ce.cls = xK (cG C) kd := by
    rw [hcl9]
    rw [hvm] at hfX
    exact Option.some.inj (hfX.symm.trans (K.en.2.1.2.2.2.2.1 kd cls hE))
  have hh : (V.setCell T.heap.size ce).heap[T.heap.size]? = some ce := heapAt_setCell_self (s := V) ce hlt
  have hsz : (V.setCell T.heap.size ce).heap.size = T.heap.size + 1 := by
    have := (Array.getElem?_eq_some_iff.mp hh).1
    omega
  have hpush : (V.setCell T.heap.size ce).heap = T.heap.push ce := by
    apply Array.ext_getElem?
    intro i
    rw [Array.getElem?_push]
    by_cases e1 : i = T.heap.size
    · rw [if_pos e1, e1, hh]
    · rw [if_neg e1]
      by_cases e2 : i < T.heap.size
      · exact f2 i e2 (fun z hz => nomatch hz)
      · have a1 : (V.setCell T.heap.size ce).heap[i]? = none := Array.getElem?_eq_none (by omega)
        have a2 : T.heap[i]? = none := Array.getElem?_eq_none (by omega)
        rw [a1, a2]
  have hce6 : ce.slots.size ≤ 6 := by
    rw [hpush, Array.toList_push, List.drop_append_of_le_length (by simp), List.map_append, List.sum_append] at f4
    simp at f4
    omega
  subst hA'
  have X5 := vx_back9 X0 Y Z0
  obtain ⟨hinv, hix⟩ := hI.inv.new (kd := kd) (ln := 0) (sl := 6) (c := ce) K.gw (Or.inr ⟨ce, rfl, hvm9, hcid, fun z => absurd z (by omega), fun _ z => absurd z (by omega)⟩) hce6 hrm'.1 hrm'.2
  have hnx : Nx w (nw w kd 0 6) := nx_nw (Nx.rf w) kd 0 6
  have hty : Ty (nw w kd 0 6) kd (some (gN w)) := fun b e => by
    cases e
    refine ⟨Nat.lt_succ_self _, ?_⟩
    rw [gK_nw, if_pos rfl]
    unfold okT
    rw [if_pos t9.2]
    simp
  obtain ⟨t, a1, b1⟩ := kk res hX (V.setCell T.heap.size ce).heap locs _ _ ls ⟨by rw [hpush]; exact hinv, fun e => fx_nw (hI.fx e) kd 0 6, hI.nx.tr hnx, hI.lc, hI.lo.nx hnx, okc hty (fun u hu => (hI.ok u hu).nx hnx)⟩ (V.setCell T.heap.size ce) rfl X5
  refine ⟨t, st1 _ ?_, b1⟩
  show Steps (mP (cM C)).tables (mE (cM C)) (mB (cM C)) (T1.setTop { method := (mM (cM C)), pc := pc + 3, locals := ls, stack := .ref T.heap.size :: st.map (cv (cG C)), locked := none }) _
  jvm_step X₁.here [X₁.here.top, K.ex, d3', Value.category]
  refine X₁.ldcStringW K.ex (own := own) (text := text) (index := is) (a := sa) hown' hstr'.1 hstr'.2
    (g := { method := (mM (cM C)), pc := pc + 4, locals := ls, stack := .ref T.heap.size :: .ref T.heap.size :: st.map (cv (cG C)), locked := none }) rfl d4' _ (stp _ ?_)
  have e5 : cv (cG C) (aR kd (some (gN w))) = .ref T.heap.size := by
    show va_rf (some (xA (cG C) (gN w))) = _
    rw [hix]
    rfl
  rw [List.map_cons, e5] at a1
  exact a1
end NXJ
