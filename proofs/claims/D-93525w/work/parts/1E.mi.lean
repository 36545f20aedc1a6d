set_option maxRecDepth 100000
/-- a call of a lambda's object: what its class's one method does -/
def Mi {β : Type} (G : Gx) (φ : Bool) (l : Launch) (d : Nat) (push : β → List AV) (b : Nat) (As : List AV) (w : Wd) (Y : Option (Wd × β)) : Prop :=
  ∀ r, Y = some r → ∀ (M : Mx) (T : State) (locs : List Loc) (cells slots : Nat) (g : JFrame) (ig : Instr) (len : Nat),
    mL M = l → (mP M).tables.exec = Jvm.exec → (∀ q ∈ lw_all, q.before (mA M) (mS M) = true) → En G (mS M) →
    d + 1 ≤ (mR M).frames → 64 * d + 21 ≤ (mR M).locals → cells + (LIMC + 8 - gN w) ≤ (mR M).cells → slots + (LIMS - SlotSum (xB G) T.heap) ≤ (mR M).slots →
    Inv G w T.heap → (φ = true → Fx w) → (∀ u ∈ As, OkV w u) → b < gN w →
    Stand (mP M) (mL M) (mE M) (mR M) (mS M) (mM M) (mA M) (mB M) (mH M) (mC M) T locs cells slots → g.method = mM M → g.locals.size = (mC M).maxLocals → decode (mC M).code g.pc = .ok (ig, len) → 2 * g.monitorRoom + (g.stack.map fun v => v.category).sum ≤ 8 →
    ∃ (v : Option Value) (T' : State) (L : List Loc), Stand (mP M) (mL M) (mE M) (mR M) (mS M) (mM M) (mA M) (mB M) (mH M) (mC M) T' (locs ++ L) (cells + (LIMC + 8 - gN w)) (slots + (LIMS - SlotSum (xB G) T.heap)) ∧ (∀ z ∈ L, xB G ≤ z.base) ∧
      v.toList = (push r.2).map (cv G) ∧ (∀ u ∈ push r.2, OkV r.1 u) ∧ Inv G r.1 T'.heap ∧ (φ = true → Fx r.1) ∧ Nx w r.1 ∧
      ∀ acts, Steps (mP M).tables (mE M) (mB M) (doInvoke (mE M) (T.setTop g) acts ⟨xK G (gK w b), 1⟩ (Value.ref (xA G b) :: As.map (cv G)).toArray).1 (T'.setTop { g with pc := g.pc + len, stack := v.toList ++ g.stack })
def rtK {β : Type} (kd : Nat) (push : β → List AV) : Prop := ((Nat.ble 27 kd && Nat.ble kd 31) = false ∧ (sG kd).sam.returnType = some .int ∧ ∀ r, ∃ x, push r = [aI x]) ∨ ((Nat.ble 27 kd && Nat.ble kd 31) = false ∧ (sG kd).sam.returnType = some .boolean ∧ ∀ r, ∃ x, push r = [aZ x]) ∨ ((Nat.ble 27 kd && Nat.ble kd 31) = true ∧ (sG kd).sam.returnType = none ∧ ∀ r, push r = [])
theorem lam_plain {kd : Nat} (h1 : 20 ≤ kd) (h2 : kd < 40) : plainName ((sX kd).cls ++ "$$Lambda") = true := by
  have h : ∀ k ∈ lams, plainName ((sX k).cls ++ "$$Lambda") = true := by decide +kernel
  have hm : kd ∈ lams := by
    have : ∀ k, k < 40 → 20 ≤ k → k ∈ lams := by decide +kernel
    exact this kd h2 h1
  exact h kd hm
/-- Object has no field -/
theorem lam_obj {args : Array Value} {s : State} (hts : ∀ w ∈ lw_all, w.before args s = true) (U : State) (hW : s.WarmedH U.vm) : ∀ o ok, U.vm.findClass "java/lang/Object" = some o → U.vm.classes[o]? = some ok → ok.instanceTypes.size = 0 := by
  intro o ok h1 h2
  obtain ⟨c, k, e1, e2, -, -, -, e3⟩ := Cond.instantiable_spec (lw_warm (a' := args) hts hW q1809)
  cases h1.symm.trans e1
  cases h2.symm.trans e2
  exact e3
theorem lam_at {G : Gx} {kd : Nat} (h1 : 20 ≤ kd) (h2 : kd < 40) {args : Array Value} {s : State} (hts : ∀ w ∈ lw_all, w.before args s = true) (hL : LmS G kd s) (U : State) (hW : s.WarmedH U.vm) :
    ∃ (k tk : Class) (file : ClassFile) (methk : Method) (ck : Code) (toy : ClassId) (t : MethodId),
      U.vm.classes[xK G kd]? = some k ∧ k.name = (sX kd).cls ++ "$$Lambda" ∧ k.cf = some file ∧ file.constantPool = (hD kd).constantPool ∧
      U.vm.method? ⟨xK G kd, 1⟩ = some methk ∧ methk.code = some ck ∧ ck.code = hc kd ∧ ck.maxLocals = 2 ∧ methk.locks = false ∧ methk.accessFlags = 1 ∧ methk.sig.returnType = (sG kd).sam.returnType ∧
      U.vm.findClass (sG kd).implClass = some toy ∧ U.vm.classes[toy]? = some tk ∧ tk.isInterface = false ∧ ((methodIn toy (sG kd).implName (sG kd).implDesc.toString tk.isInterface none).ask { classPath := fun _ => none } U.vm).1 = .ok t ∧
      U.vm.methodReady (xK G kd) (mIx kd) t ∧ U.vm.classReady (xK G kd) (cIx kd) toy ∧ (∀ (i ix : Nat), (fld kd)[i]? = some ix → ∃ f : Field, U.vm.fieldReady (xK G kd) ix (xK G kd) f ∧ f.isStatic = false ∧ f.slot = i) ∧ k.instanceTypes.toList = (sG kd).captured := by
  obtain ⟨m0, k0, cf0, i0, p0, l0, hm0, hk0, hcf0, hsh0, hfind0, hmade0, hcall0, -, -⟩ := hL.moved hW
  obtain ⟨kx, hkx, hkn⟩ := className_of_methodNamed hm0
  cases hk0.symm.trans hkx
  exact lam_facts h1 h2 hk0 hkn hmade0 (lam_obj hts U hW)
theorem Mi.of {β : Type} {G : Gx} {φ : Bool} {l : Launch} {d : Nat} {push : β → List AV} {b : Nat} {pn : Option Nat} {w : Wd} {Y : Option (Wd × β)} {kd n : Nat} {y : MethodName} {cb : ByteArray} {nb : Nat} {ret : Option FieldType} {caps : List AV}
    (hG : GW G) (h1 : 20 ≤ kd) (h2 : kd < 40) (hk : gK w b = kd) (hgl : gL w b = (fld kd).length) (hy9 : hY9 kd = y)
    (hcaps : caps.map (cv G) = (List.range (fld kd).length).map (fun i => vS G kd i (gI w b i) (gR w b i) (gJ w b i))) (hokc : (∀ k x, gR w b k = some x → x < gN w ∧ okT (rt kd k) (gK w x) = true) → ∀ u ∈ caps, OkV w u)
    (hM : Mt G φ l y (ws_ y cb nb ret) d (rrV G push) (caps ++ [aR 4 pn]) w Y)
    (hq : (vir kd = false ∧ Cond.static y ∈ lw_all ∧ n = (fld kd).length + 1) ∨ (vir kd = true ∧ Cond.instanceMethod y ∈ lw_all ∧ Cond.selects y.cls y y ∈ lw_all ∧ y.cls = "IntervalTree" ∧ n = (fld kd).length ∧ ∃ cs, caps = aR 1 (some 8) :: cs))
    (q4 : Cond.initialized y.cls ∈ lw_all) (q5 : Cond.code y cb nb ret ∈ lw_all) (hp : y.cls ≠ "java/lang/invoke/MethodHandle" ∧ y.cls ≠ "java/lang/invoke/VarHandle" ∧ (parseMethodDescriptor y.desc).map (fun d => d.parameters.length) = some n) (hnb : Nat.ble nb 45 = true) (hrt : rtK kd push) : Mi G φ l (d + 1) push b [aR 4 pn] w Y := by
  intro r hY M T locs cells slots g ig len hml hexec hts hEn hfr hlo hce hsl hInv hFx hOk hb X hg hsize hdg hW
  subst hml
  rw [hk]
  have hnb' := Nat.le_of_ble_eq_true hnb
  have hLm : LmS G kd (mS M) := hEn.2.1.2.2.2.2.2.2.1 kd h1 h2
  obtain ⟨k, tk, file, methk, ck, toy, t, f1, f2, f3, f4, f5, f6, f7, f8, f9, f10, f11, -⟩ := lam_at h1 h2 hts hLm T X.warmed
  obtain ⟨a, ha⟩ : ∃ z, z = (Value.ref (xA G b) :: [aR 4 pn].map (cv G)).toArray := ⟨_, rfl⟩
  rw [← ha]
  obtain ⟨Y₀, hin⟩ := X.into hg hsize hdg a (R' := { frames := d + 1, locals := 64 * (d + 1), cells := LIMC + 8 - gN w, slots := LIMS - SlotSum (xB G) T.heap }) f5 f6 f9 (State.plainMethod.of_name (fun k' hk' => by cases f1.symm.trans hk'; rw [f2]; exact lam_plain h1 h2)) hfr
    (by rw [f8]; show _ + _ + (2 + 11) + 64 * (d + 1) ≤ _; omega) hce hsl
  generalize hU : (T.setTop g).pushFrame (.java (entryFrame ⟨xK G kd, 1⟩ a ck.maxLocals)) = U at Y₀ hin
  have hheap : U.heap = T.heap := by rw [← hU]; rfl
  obtain ⟨s', hs'⟩ : ∃ z, z = T.calling g ⟨xK G kd, 1⟩ a := ⟨_, rfl⟩
  rw [← hs'] at Y₀
  have hsvm : s'.vm = T.vm := by rw [hs']; rfl
  have hWs : (mS M).WarmedH s'.vm := by rw [hsvm]; exact X.warmed
  have hts' : ∀ q ∈ lw_all, q.before a s' = true := fun q hq => lw_warm hts hWs hq
  have hLm' : LmS G kd s' := hLm.moved hWs
  have hEn' : En G s' := hEn.moved hWs (by rw [hs']; exact hInv.2.2.2.2.1)
  have hC := hInv.2.1 b hb
  rw [hk] at hC
  rcases hC with hC | ⟨cB, c1, c2, c3, -, c4⟩
  · omega
  obtain ⟨c5, c6⟩ := c4 (by omega) h2
  rw [hgl] at c5 c6
  have hlen : (caps.map (cv G)).length = (fld kd).length := by rw [hcaps]; simp
  have hvals : ∀ (i : Nat) (v : Value), (caps.map (cv G))[i]? = some v → cB.slots[i]? = some v := fun i v hv => by
    have hi : i < (fld kd).length := by
      rw [← hlen]
      exact (List.getElem?_eq_some_iff.mp hv).1
    rw [hcaps, List.getElem?_map, List.getElem?_range hi] at hv
    rw [c6 i hi]
    exact hv
  have hoc : ∀ u ∈ caps ++ [aR 4 pn], OkV w u := fun u hu => by
    rcases List.mem_append.mp hu with z | z
    · exact hokc (fun k x hx => by have := hInv.2.2.1 b k x hb hx; rw [hk] at this; exact this) u z
    · exact hOk u z
  have hfl : ∀ (i ix : Nat), (fld kd)[i]? = some ix → ∀ V : State, s'.WarmedH V.vm → ∃ f : Field, V.vm.fieldReady (xK G kd) ix (xK G kd) f ∧ f.isStatic = false ∧ f.slot = i := fun i ix hi V hV => by
    obtain ⟨_, _, _, _, _, _, _, -, -, -, -, -, -, -, -, -, -, -, -, -, -, -, -, -, h18, -⟩ := lam_at h1 h2 hts' hLm' V hV
    exact h18 i ix hi
  have hLall : ∀ V : State, s'.WarmedH V.vm → ∃ (k tk : Class) (file : ClassFile) (toy : ClassId) (t : MethodId), V.vm.classes[xK G kd]? = some k ∧ k.cf = some file ∧ file.constantPool = (hD kd).constantPool ∧ V.vm.findClass (sG kd).implClass = some toy ∧ V.vm.classes[toy]? = some tk ∧ tk.isInterface = false ∧ ((methodIn toy (sG kd).implName (sG kd).implDesc.toString tk.isInterface none).ask { classPath := fun _ => none } V.vm).1 = .ok t ∧ V.vm.methodReady (xK G kd) (mIx kd) t ∧ V.vm.classReady (xK G kd) (cIx kd) toy := fun V hV => by
    obtain ⟨k, tk, file, _, _, toy, t, g1, -, g3, g4, -, -, -, -, -, -, -, g12, g13, g14, g15, g16, g17, -⟩ := lam_at h1 h2 hts' hLm' V hV
    exact ⟨k, tk, file, toy, t, g1, g3, g4, g12, g13, g14, g15, g16, g17⟩
  have hK := mx_back (l := mL M) (R := { frames := d + 1, locals := 64 * (d + 1), cells := LIMC + 8 - gN w, slots := LIMS - SlotSum (xB G) T.heap }) (p := mP M) (e := mE M) (below := .java g :: mB M) (s := s') (sargs := a) (len := 3) (W9 := 8) (bytes := cb) (maxL := nb) (ret := ret) (hM.free hY (SlotSum (xB G) T.heap)) PcM.blind rfl rfl (Nat.le_refl _) (by show 8 + (nb + 11) + 64 * d ≤ 64 * (d + 1); omega)
    (fun q hq a' V hV => by
      rcases List.mem_cons.mp hq with z | z
      · rw [z]; exact lw_warm hts' hV q5
      · exact lw_warm hts' hV z) (Or.inl List.mem_cons_self) (fun a' V hV => lw_warm hts' hV q4)
  obtain ⟨-, -, -, -, -, -, -, -, -, -, -, -, -, -, -, -, o17, o18, o19⟩ := lamOk h1 h2
  obtain ⟨ls0, hls⟩ : ∃ z : Array Slot, z = #[.val (.ref (xA G b)), .val (rf G pn)] := ⟨_, rfl⟩
  have hpre : ∀ V : State, V.heap = T.heap → s'.WarmedH V.vm → PcM G φ (caps ++ [aR 4 pn]) w (SlotSum (xB G) T.heap) ((caps ++ [aR 4 pn]).map (cv G)).toArray V := fun V hV hW1 =>
    ⟨rfl, hEn'.moved hW1 (by rw [hV]; exact hInv.2.2.2.2.1), by rw [hV]; exact hInv, hFx, hoc, by rw [hV]⟩
  have walk : W (mP M) (mL M) (mE M) { frames := d + 1, locals := 64 * (d + 1), cells := LIMC + 8 - gN w, slots := LIMS - SlotSum (xB G) T.heap } s' ⟨xK G kd, 1⟩ a (.java g :: mB M) methk ck T.heap [] 0 0
      (MQ (.java g :: mB M) (fun _ _ o t => rrV G push r.2 r.1 o ∧ Inv G r.1 t.heap ∧ (φ = true → Fx r.1) ∧ Nx w r.1) a s' (0 + (LIMC + 8 - gN w)) (0 + (LIMS - SlotSum (xB G) T.heap)) (fun q => xB G ≤ q)) (F0 ⟨xK G kd, 1⟩ 0 ls0 []) := by
    refine W.hl h1 h2 hexec f7 hfl c1 c2 (caps.map (cv G)) hlen hvals (by rw [hls]; rfl) ?_
    have fin : ∀ (v : Option Value) (U' : State) (L2 : List Loc) (hst : Stand (mP M) (mL M) (mE M) { frames := d + 1, locals := 64 * (d + 1), cells := LIMC + 8 - gN w, slots := LIMS - SlotSum (xB G) T.heap } s' ⟨xK G kd, 1⟩ a (.java g :: mB M) methk ck U' ([] ++ L2) (0 + (LIMC + 8 - gN w)) (0 + (LIMS - SlotSum (xB G) T.heap))), (∀ z ∈ L2, xB G ≤ z.base) → rrV G push r.2 r.1 (.returned v) → Inv G r.1 U'.heap → (φ = true → Fx r.1) → Nx w r.1 →
        ∃ t, Steps (mP M).tables (mE M) (.java g :: mB M) (U'.setTop (F0 ⟨xK G kd, 1⟩ (4 * (fld kd).length + 4) ls0 (v.toList ++ []))) t ∧ MQ (.java g :: mB M) (fun _ _ o t => rrV G push r.2 r.1 o ∧ Inv G r.1 t.heap ∧ (φ = true → Fx r.1) ∧ Nx w r.1) a s' (0 + (LIMC + 8 - gN w)) (0 + (LIMS - SlotSum (xB G) T.heap)) (fun q => xB G ≤ q) t := by
      intro v U' L2 XU hL2 hrr i1 i2 i3
      have hq9 : ∀ t : State, t.heap = U'.heap → s'.WarmedH t.vm → rrV G push r.2 r.1 (.returned v) ∧ Inv G r.1 t.heap ∧ (φ = true → Fx r.1) ∧ Nx w r.1 := fun t e _ => ⟨hrr, by rw [e]; exact i1, i2, i3⟩
      obtain ⟨v', ov, hv1, hv2⟩ := id hrr
      cases ov
      rcases hrt with ⟨k1, k2, k3⟩ | ⟨k1, k2, k3⟩ | ⟨k1, k2, k3⟩
      · obtain ⟨x, hx⟩ := k3 r.2
        rw [hx] at hv1
        cases v with
        | none => cases hv1
        | some v0 =>
          cases hv1
          rw [k1] at o19
          exact W.iret hexec f7 (f11.trans k2) hq9 (by simpa using hL2) o19 f9 U' rfl XU
      · obtain ⟨x, hx⟩ := k3 r.2
        rw [hx] at hv1 hv2
        have hbx : B01 x := hv2 _ List.mem_cons_self rfl
        cases v with
        | none => cases hv1
        | some v0 =>
          cases hv1
          rw [k1] at o19
          exact W.zret hexec f7 (f11.trans k2) (nar01 hbx).1 hq9 (by simpa using hL2) o19 f9 U' rfl XU
      · rw [k3 r.2] at hv1
        cases v with
        | some v0 => cases hv1
        | none =>
          rw [k1] at o19
          exact W.vret hexec f7 (f11.trans k2) hq9 (by simpa using hL2) o19 f9 U' rfl XU
    have call : W (mP M) (mL M) (mE M) { frames := d + 1, locals := 64 * (d + 1), cells := LIMC + 8 - gN w, slots := LIMS - SlotSum (xB G) T.heap } s' ⟨xK G kd, 1⟩ a (.java g :: mB M) methk ck T.heap [] 0 0
      (MQ (.java g :: mB M) (fun _ _ o t => rrV G push r.2 r.1 o ∧ Inv G r.1 t.heap ∧ (φ = true → Fx r.1) ∧ Nx w r.1) a s' (0 + (LIMC + 8 - gN w)) (0 + (LIMS - SlotSum (xB G) T.heap)) (fun q => xB G ≤ q)) (F0 ⟨xK G kd, 1⟩ (4 * (fld kd).length + 1) ls0 (rf G pn :: (caps.map (cv G)).reverse)) := by
      intro T1 hT1 X1
      have hsz : (F0 ⟨xK G kd, 1⟩ (4 * (fld kd).length + 1) ls0 (rf G pn :: (caps.map (cv G)).reverse)).locals.size = ck.maxLocals := by rw [f8]; show ls0.size = 2; rw [hls]; rfl
      have hsg : ∀ sig, parseMethodDescriptor y.desc = some sig → n = sig.parameters.length := fun sig hs => by
        have := hp.2.2
        rw [hs] at this
        exact (Option.some.inj this).symm
      rcases hq with ⟨v1, v2, v3⟩ | ⟨v1, v2, v3, v4, v5, cs, v6⟩
      · rw [v1] at o18
        rcases hid_callS X1 hexec h1 h2 hy9 hLall hts' v2 q4 q5 ⟨hp.1, hp.2.1⟩ hK (g := F0 ⟨xK G kd, 1⟩ (4 * (fld kd).length + 1) ls0 (rf G pn :: (caps.map (cv G)).reverse)) rfl hsz (argsL := (caps ++ [aR 4 pn]).map (cv G)) (rest := []) (fun sig hs => by rw [← hsg sig hs, v3, List.map_append, List.length_append, hlen]; rfl) (by show _ = _; simp [List.map_append, List.reverse_append, cv]) (Nat.le_trans (Nat.le_of_eq rfl) (Nat.zero_le 8)) (by rw [f7]; exact o18)
          ⟨Nat.le_of_eq (Nat.zero_add _), Nat.le_of_eq (Nat.zero_add _), hpre T1 hT1 X1.warmed⟩ with ⟨v, ⟨U', l2, k2, s2⟩, XU, ⟨t2, L2, e1, ⟨hrr, i1, i2, i3⟩, hloc, hL2, hc2, hs2⟩, st⟩ | ⟨q, B, XU, ⟨t2, L2, e1, ⟨⟨v', ov, -⟩, -⟩, -⟩, -⟩
        · dsimp only [Pt.U, Pt.locs, Pt.cells, Pt.slots] at XU e1 hloc hc2 hs2 st
          rw [hloc, hc2, hs2] at XU
          obtain ⟨t, a3, b3⟩ := fin v U' L2 XU hL2 hrr (by rw [e1]; exact i1) i2 i3
          exact ⟨t, st _ a3, b3⟩
        · cases ov
      · rw [v1] at o18
        have h7 : OkV w (aR 1 (some 8)) := hoc _ (by rw [v6]; simp)
        obtain ⟨h71, h72⟩ := h7 8 rfl
        have h73 : gK w 8 = 1 := by simpa [okT] using h72
        have hC7 := hInv.2.1 8 h71
        rw [h73] at hC7
        rcases hC7 with hC7 | ⟨cR, r1, r2, r3, -⟩
        · cases hC7
        have hstk : rf G pn :: (caps.map (cv G)).reverse = ((cs ++ [aR 4 pn]).map (cv G)).reverse ++ .ref (xA G 8) :: [] := by
          rw [v6]
          simp [List.map_append, List.reverse_append, cv]
          rfl
        have hlc : cs.length + 1 = (fld kd).length := by rw [← hlen, v6]; simp
        rcases hid_callV X1 hexec h1 h2 hy9 hLall hts' v2 v3 q5 ⟨hp.1, hp.2.1⟩ hK (b := xA G 8) (cellB := cR) (by rw [hT1]; exact r1) r2 (by rw [r3, v4]; exact (hEn'.1.1 1 _ _ _ rfl).2.1) (g := F0 ⟨xK G kd, 1⟩ (4 * (fld kd).length + 1) ls0 (rf G pn :: (caps.map (cv G)).reverse)) rfl hsz (argsL := (cs ++ [aR 4 pn]).map (cv G)) (rest := []) (fun sig hs => by rw [← hsg sig hs, v5, List.map_append, List.length_append, List.length_map, ← hlc]; rfl) hstk (Nat.le_trans (Nat.le_of_eq rfl) (Nat.zero_le 8)) (by rw [f7]; exact o18)
          ⟨Nat.le_of_eq (Nat.zero_add _), Nat.le_of_eq (Nat.zero_add _), by have := hpre T1 hT1 X1.warmed; rw [v6] at this ⊢; exact this⟩ with ⟨v, ⟨U', l2, k2, s2⟩, XU, ⟨t2, L2, e1, ⟨hrr, i1, i2, i3⟩, hloc, hL2, hc2, hs2⟩, st⟩ | ⟨q, B, XU, ⟨t2, L2, e1, ⟨⟨v', ov, -⟩, -⟩, -⟩, -⟩
        · dsimp only [Pt.U, Pt.locs, Pt.cells, Pt.slots] at XU e1 hloc hc2 hs2 st
          rw [hloc, hc2, hs2] at XU
          obtain ⟨t, a3, b3⟩ := fin v U' L2 XU hL2 hrr (by rw [e1]; exact i1) i2 i3
          exact ⟨t, st _ a3, b3⟩
        · cases ov
    cases pn with
    | none => exact lv_aload_nN (i := 1) hexec f7 o17 rfl (by rw [hls]; rfl) call
    | some x => exact lv_aload_n (i := 1) hexec f7 o17 rfl (by rw [hls]; rfl) call
  obtain ⟨t, hst, o, -, hend, ⟨⟨v, ov, hv1, hv2⟩, i1, i2, i3⟩, L, ⟨-, hWe, hsame⟩, hLf⟩ := walk U hheap Y₀
  subst ov
  rw [hs'] at hWe hsame
  obtain ⟨T', X', hW', -, ht⟩ := X.outOf hg hdg hend hWe hsame
  rw [Nat.zero_add, Nat.zero_add] at X'
  refine ⟨v, T', L, X', hLf, hv1, hv2, ?_, i2, i3, fun acts => ?_⟩
  · have e1 : t.heap = T'.heap := by rw [ht]; rfl
    rw [← e1]
    exact i1
  · rw [hin acts, ← ht]
    refine Steps.weaken (mid := [.java g]) ?_
    have hloc : entryFrame ⟨xK G kd, 1⟩ a ck.maxLocals = F0 ⟨xK G kd, 1⟩ 0 ls0 [] := by
      rw [f8, ha, hls]
      cases pn <;> rfl
    rw [hloc]
    exact hst
