set_option maxRecDepth 100000
/-! ===== exceptions: what follows the kit's own vx_back, vx_makeS, vx_out (EXCEPTIONS.to-paste), with the thrown object's place kept ===== -/
section MX
variable {l : Launch} {R : Room} {p : Program} {e : Env} {below : List Frame} {s : State} {sargs : Array Value} {y : MethodName} {len W9 : Nat}
def PostMX (Qo : Outcome → State → Prop) (mc ms : Nat) (free : Addr → Prop) : Pt → Outcome → Pt → Prop := fun A o B => ∃ (t : State) (L : List Loc), B.U.heap = t.heap ∧ Qo o t ∧ B.locs = A.locs ++ L ∧ (∀ z ∈ L, free z.base) ∧ B.cells = A.cells + mc ∧ B.slots = A.slots + ms
theorem mx_back {ws : List Cond} {rm : Room} {Pc : Array Value → State → Prop} {Qo : Outcome → State → Prop} {mc ms : Nat} {free : Addr → Prop} {bytes : ByteArray} {maxL : Nat} {ret : Option FieldType}
    (hM : MetFree l y (headSpec ws rm) Pc (fun _ _ _ _ _ => True) (fun _ st o t => Qo o t ∧ st.WarmedH t.vm ∧ ∃ L : List Loc, st.sameButNew ({ t with vm := st.vm } : State) L mc ms ∧ ∀ z ∈ L, free z.base)) (hblind : FrameBlind Pc) (hrc : rm.cells = mc) (hrs : rm.slots = ms)
    (hframes : rm.frames + 1 ≤ R.frames) (hlocals : W9 + (maxL + 11) + rm.locals ≤ R.locals)
    (hws : ∀ w ∈ ws, ∀ a' U, s.WarmedH U.vm → w.before a' U = true) (hcode : Cond.code y bytes maxL ret ∈ ws ∨ ∃ hh, Cond.codeWith y bytes maxL ret hh ∈ ws) (hinit : ∀ a' U, s.WarmedH U.vm → (Cond.initialized y.cls).before a' U = true) :
    vx_Back l R p e below s sargs y len W9 (PreOf R mc ms Pc) (fun A _ v B => PostMX Qo mc ms free A (.returned v) B) (fun A _ q B => PostMX Qo mc ms free A (.threw q) B) := by
  intro m meth c A g ig mk a X hg hsize hdg hW hn hp
  have h1 : (headSpec ws rm).pre.before a A.U = true := atoms_intro fun w hw => hws w hw _ _ X.warmed
  have h3 : (Cond.initialized y.cls).before a A.U = true := hinit _ _ X.warmed
  have h4 : A.cells + (headSpec ws rm).room.cells ≤ R.cells := by rw [show (headSpec ws rm).room.cells = mc from hrc]; exact hp.1
  have h5 : A.slots + (headSpec ws rm).room.slots ≤ R.slots := by rw [show (headSpec ws rm).room.slots = ms from hrs]; exact hp.2.1
  have hPc : Pc a (A.U.calling g mk a) := hblind _ _ _ _ hp.2.2
  have h2 : ∃ (methY : Method) (cY : Code), A.U.vm.method? mk = some methY ∧ methY.code = some cY ∧ cY.maxLocals = maxL := by
    rcases hcode with hcode | ⟨hh, hcode⟩
    · obtain ⟨methY, cY, hmY, hcY, -, hlY, -, -, -, -⟩ := Cond.code_spec hn (hws _ hcode a _ X.warmed)
      exact ⟨methY, cY, hmY, hcY, hlY⟩
    · obtain ⟨m9, methY, cY, hn9, hmY, hcY, -, hlY, -⟩ := Cond.codeWith_spec (hws _ hcode a _ X.warmed)
      cases hn.symm.trans hn9
      exact ⟨methY, cY, hmY, hcY, hlY⟩
  obtain ⟨U, Ls, c0, s0⟩ := A
  dsimp only [Pt.U, Pt.locs, Pt.cells, Pt.slots] at h1 h2 h3 h4 h5 X hn hPc ⊢
  obtain ⟨methY, cY, hmY, hcY, hlY⟩ := h2
  obtain ⟨kY, hkY, -⟩ := className_of_methodNamed hn
  have hinitY : kY.init = .initialized := Cond.initialized_spec (findClass_of_methodNamed hn) hkY h3
  have h : At U g.method c below := by rw [hg]; exact X.here
  have hlocals9 : W9 + (maxL + 11) + (headSpec ws rm).room.locals ≤ R.locals := hlocals
  have happ : (headSpec ws rm).appliesLoose y e.platform (U.calling g mk a) = true :=
    Spec.appliesLoose_calling (g := g) h hdg hn hkY hinitY
      (X.room_calling (g := g) (R' := (headSpec ws rm).room) hsize hmY hcY hframes (by rw [hlY]; omega) h4 h5) h1
  obtain ⟨mid, hmid⟩ := h.above
  have hfr : (U.setTop g).frames = (.java g :: mid) ++ below := by rw [State.frames_setTop' g h.top, hmid]; rfl
  obtain ⟨o, s₂, hsteps, -, hend, hqo, hW₂, L, hsm, hL⟩ := Steps.callFree hM p X.admits X.cas X.clock (acts := []) hfr happ hPc trivial
  have hsm : (U.calling g mk a).sameButNew ({ s₂ with vm := (U.calling g mk a).vm } : State) L mc ms := hsm
  rw [State.frames_setTop' g h.top] at hend
  obtain ⟨g₀, hg0⟩ := Option.isSome_iff_exists.mp h.top
  obtain ⟨r, hr⟩ := State.topJava?_eq_some.mp hg0
  have hr' : (({ U with heap := s₂.heap, slotsUsed := s₂.slotsUsed } : State).setVm s₂.vm).frames = .java g₀ :: r := hr
  obtain ⟨e2, q2, q3, q4, q5, q6⟩ := id hsm
  have e3 : s₂ = ({ (U.calling g mk a).setFrames s₂.frames with heap := s₂.heap, slotsUsed := s₂.slotsUsed } : State).setVm s₂.vm := by
    have : s₂ = ({ s₂ with vm := (U.calling g mk a).vm } : State).setVm s₂.vm := rfl
    rw [e2] at this
    exact this
  have hW' : U.WarmedH s₂.vm := hW₂
  have hsame : U.sameButNew ({ U with heap := s₂.heap, slotsUsed := s₂.slotsUsed } : State) L mc ms := by
    refine ⟨?_, q2, q3, q4, q5, q6⟩
    obtain ⟨t, ht, -⟩ := State.frames_cons hr
    show ({ U with heap := s₂.heap, slotsUsed := s₂.slotsUsed } : State) = { U.setFrames U.frames with heap := s₂.heap, slotsUsed := s₂.slotsUsed }
    rw [State.setFrames_self ht]
  cases o with
  | returned v =>
    obtain ⟨c₂, i₂, len₂, hc₂, hd₂, hf₂⟩ := hend
    have hcc : c₂ = c := by
      have h1 : s₂.code? g.method = U.code? g.method := by
        rw [State.code?_eq, State.code?_eq, hW'.alike.method?]
      exact Option.some.inj (hc₂.symm.trans (h1.trans h.code))
    subst hcc
    have hlen : len₂ = len := by rw [hdg] at hd₂; cases hd₂; rfl
    subst hlen
    have hs₂ : s₂ = (({ U with heap := s₂.heap, slotsUsed := s₂.slotsUsed } : State).setVm s₂.vm).setTop { g with pc := g.pc + len₂, stack := v.toList ++ g.stack } := by
      refine e3.trans ?_
      rw [hf₂, State.calling_eq h.top, State.setFrames_setFrames, State.setTop_of_frames _ hr', hr]
      rfl
    subst hg
    refine Or.inl ⟨v, ⟨(({ U with heap := s₂.heap, slotsUsed := s₂.slotsUsed } : State).setVm s₂.vm), Ls ++ L, c0 + mc, s0 + ms⟩,
      ⟨X.admits, X.cas, X.clock, X.frames, X.room, X.hears, X.method, X.code, (X.here.setHeapUsed s₂.heap s₂.slotsUsed).setVm hW'.alike, X.tail, State.WarmedH.trans X.warmed hW', X.limits, X.bytes, X.same.trans (hsame.setVm s.vm)⟩,
      ⟨s₂, L, rfl, hqo, rfl, hL, rfl, rfl⟩, ?_⟩
    show Steps p.tables e below _ ((({ U with heap := s₂.heap, slotsUsed := s₂.slotsUsed } : State).setVm s₂.vm).setTop { g with pc := g.pc + len₂, stack := v.toList ++ g.stack })
    rw [← hs₂]
    exact hsteps
  | threw q =>
    have hf₂ : s₂.frames = .throwing q :: .java g :: U.frames.tail := hend
    have hs₂ : s₂ = ((({ U with heap := s₂.heap, slotsUsed := s₂.slotsUsed } : State).setVm s₂.vm).setTop g).pushFrame (.throwing q) := by
      refine e3.trans ?_
      rw [hf₂, State.calling_eq h.top, State.setFrames_setFrames, State.pushFrame, State.frames_setTop _ hr', State.setTop_of_frames _ hr', State.setFrames_setFrames, hr]
      rfl
    subst hg
    refine Or.inr ⟨q, ⟨(({ U with heap := s₂.heap, slotsUsed := s₂.slotsUsed } : State).setVm s₂.vm), Ls ++ L, c0 + mc, s0 + ms⟩,
      ⟨X.admits, X.cas, X.clock, X.frames, X.room, X.hears, X.method, X.code, (X.here.setHeapUsed s₂.heap s₂.slotsUsed).setVm hW'.alike, X.tail, State.WarmedH.trans X.warmed hW', X.limits, X.bytes, X.same.trans (hsame.setVm s.vm)⟩,
      ⟨s₂, L, rfl, hqo, rfl, hL, rfl, rfl⟩, ?_⟩
    show Steps p.tables e below _ (((({ U with heap := s₂.heap, slotsUsed := s₂.slotsUsed } : State).setVm s₂.vm).setTop g).pushFrame (.throwing q))
    rw [← hs₂]
    exact hsteps
end MX
/-- what a contract says behind the call -/
def Qo {β : Type} (G : Gx) (φ : Bool) (rr : β → Wd → Outcome → Prop) (w : Wd) (res : Wd × β) : Outcome → State → Prop := fun o t => rr res.2 res.1 o ∧ Inv G res.1 t.heap ∧ (φ = true → Fx res.1) ∧ Nx w res.1
theorem Mt.free {β : Type} {G : Gx} {φ : Bool} {l : Launch} {y : MethodName} {ws : List Cond} {d : Nat} {rr : β → Wd → Outcome → Prop} {av : List AV} {w : Wd} {X : Option (Wd × β)} (hM : Mt G φ l y ws d rr av w X) {res : Wd × β} (hX : X = some res) (S0 : Nat) :
    MetFree l y (headSpec ws (rmm d w S0)) (PcM G φ av w S0) (fun _ _ _ _ _ => True) (fun _ st o t => Qo G φ rr w res o t ∧ st.WarmedH t.vm ∧ ∃ L : List Loc, st.sameButNew ({ t with vm := st.vm } : State) L (LIMC + 8 - gN w) (LIMS - S0) ∧ ∀ z ∈ L, xB G ≤ z.base) := by
  intro p e ha hc hk s m args below hf happ hP hK
  obtain ⟨n, o, h1, h2, h3, b1, b2, b3, b4, b5, b6⟩ := hM res hX S0 p e ha hc hk s m args below hf happ hP hK
  exact ⟨n, o, h1, h2, h3, ⟨b1, b2, b3, b4⟩, b5, b6⟩
/-- the frame at pc, with the object q thrown over it -/
def Tf {α : Type} (C : Cw) (rr : α → Wd → Outcome → Prop) (X : Option (Wd × α)) (w : Wd) (pc : Nat) (lv : Lv) (st : List AV) (q : Nat) : Prop :=
  ∀ res, X = some res → ∀ (H : Heap) (locs : List Loc) (cells slots : Nat) (ls : Array Slot), IJ C w H locs lv ls st → vx_W (mP (cM C)) (mL (cM C)) (mE (cM C)) (mR (cM C)) (mS (cM C)) (mM (cM C)) (mA (cM C)) (mB (cM C)) (mH (cM C)) (mC (cM C)) H locs cells slots (QF C rr res) (F0 (mM (cM C)) pc ls (st.map (cv (cG C)))) (xA (cG C) q)
/-- an exception's kind -/
def isX (k : Nat) : Bool := (Nat.ble 40 k && Nat.ble k 43) || k == 6
def bX {α β : Type} (Y : Option (Wd × (β ⊕ Nat))) (Z : Wd → β → Option (Wd × (α ⊕ Nat))) : Option (Wd × (α ⊕ Nat)) := match Y with
  | none => none
  | some (w, .inl b) => Z w b
  | some (w, .inr q) => some (w, .inr q)
section JX
variable {α β : Type} {C : Cw} {rr : α → Wd → Outcome → Prop} {X : Option (Wd × α)} {cc : ByteArray} {own : String} {d : Nat} {w : Wd} {pc : Nat} {lv : Lv} {st st0 : List AV} {push : β → List AV} {y : MethodName} {cb : ByteArray} {nb ix n : Nat} {ret : Option FieldType}
theorem W.shrinkX {M : Mx} {H : Heap} {locs : List Loc} {cells slots : Nat} {Q : State → Prop} {g : JFrame} {q : Addr} (b : Nat) (hb : b ≤ (mS M).heap.size) (k : SlotSum (mS M).heap.size H + SlotSum b (mS M).heap = SlotSum b H → (mS M).heap.size ≤ H.size → vx_W (mP M) (mL M) (mE M) (mR M) (mS M) (mM M) (mA M) (mB M) (mH M) (mC M) H locs (H.size - (mS M).heap.size) (SlotSum (mS M).heap.size H) Q g q) : vx_W (mP M) (mL M) (mE M) (mR M) (mS M) (mM M) (mA M) (mB M) (mH M) (mC M) H locs cells slots Q g q := by
  intro T hT X
  subst hT
  obtain ⟨h1, h2, h3, h4, h5, h6⟩ := X.same
  have h2' : (mS M).heap.size ≤ T.heap.size := h2
  have h7 : SlotSum (mS M).heap.size T.heap + SlotSum b (mS M).heap = SlotSum b T.heap := slotSum_old rfl hb h2' (fun a c hc => by
    obtain ⟨c', q1, -, q2, -⟩ := h6 a c hc
    exact ⟨c', q1, q2⟩)
  refine k h7 h2' T rfl { X with same := ?_ }
  exact ⟨h1, h2, by show T.heap.size ≤ _; omega, h4, Nat.le_refl _, h6⟩
/-- not caught here -/
theorem j_out {r : α} {q : Nat} (K : Cx C cc own d) (hxt : ∀ x ∈ (mC (cM C)).exceptionTable.toList, covers x pc = false) (hrr : rr r w (.threw (xA (cG C) q))) : Tf C rr (some (w, r)) w pc lv st q := by
  intro res hX H locs cells slots ls h
  cases hX
  refine W.shrinkX (xB (cG C)) K.b0 (fun h7 h8 => ?_)
  obtain ⟨r1, r2⟩ := h.room K h7 h8 (a := 0) (b := 0) h.cl h.sl
  intro T hT X
  obtain ⟨st1, hrun, hend, hW, hsm⟩ := X.leaveThrown (xA (cG C) q) (g := F0 (mM (cM C)) pc ls (st.map (cv (cG C)))) rfl rfl rfl hxt K.lk
  exact ⟨_, st1, .threw (xA (cG C) q), hrun, hend, hrr, by show Inv _ _ T.heap; rw [hT]; exact h.inv, h.fx, h.nx, hW, locs, hsm.mono r1 r2, h.lc⟩
theorem j_athrow {t q : Nat} (K : Cx C cc own d) (hd : decode cc pc = .ok (.athrow, 1)) (k : Tf C rr X w pc lv st q) : Jf C rr X w pc lv (aR t (some q) :: st) :=
  fun res hX H locs cells slots ls h => vx_athrow K.ex K.cb hd (k res hX H locs cells slots ls h.d1)
theorem callX_go {Y : Option (Wd × (β ⊕ Nat))} {Z : Wd → β → Option (Wd × (α ⊕ Nat))} {push' : α → List AV} {H : Heap} {locs : List Loc} {ls : Array Slot} {cells slots mc ms : Nat} {res : Wd × (α ⊕ Nat)} {r : Wd × (β ⊕ Nat)} {st' : List AV} {T : State} (K : Cx C cc own d) (hxt : ∀ x ∈ (mC (cM C)).exceptionTable.toList, False) (h : IJ C w H locs lv ls st') (hst : ∀ v ∈ st, OkV w v) (hY : Y = some r) (hZ : bX Y Z = some res)
    (hr : (∃ (v : Option Value) (vm₁ : Vm) (B : Pt), (mS (cM C)).WarmedH vm₁ ∧ Stand (mP (cM C)) (mL (cM C)) (mE (cM C)) (mR (cM C)) (mS (cM C)) (mM (cM C)) (mA (cM C)) (mB (cM C)) (mH (cM C)) (mC (cM C)) B.U B.locs B.cells B.slots ∧ PostMX (Qo (cG C) (cF C) (rrX (cG C) push) w r) mc ms (fun q => xB (cG C) ≤ q) ⟨T.setVm vm₁, locs, cells, slots⟩ (.returned v) B ∧
      ∀ target, Steps (mP (cM C)).tables (mE (cM C)) (mB (cM C)) (B.U.setTop { (F0 (mM (cM C)) pc ls (st0.map (cv (cG C)))) with pc := pc + 3, stack := v.toList ++ st.map (cv (cG C)) }) target → Steps (mP (cM C)).tables (mE (cM C)) (mB (cM C)) (T.setTop (F0 (mM (cM C)) pc ls (st0.map (cv (cG C))))) target) ∨
    (∃ (q : Addr) (vm₁ : Vm) (B : Pt), (mS (cM C)).WarmedH vm₁ ∧ Stand (mP (cM C)) (mL (cM C)) (mE (cM C)) (mR (cM C)) (mS (cM C)) (mM (cM C)) (mA (cM C)) (mB (cM C)) (mH (cM C)) (mC (cM C)) B.U B.locs B.cells B.slots ∧ PostMX (Qo (cG C) (cF C) (rrX (cG C) push) w r) mc ms (fun q => xB (cG C) ≤ q) ⟨T.setVm vm₁, locs, cells, slots⟩ (.threw q) B ∧
      Steps (mP (cM C)).tables (mE (cM C)) (mB (cM C)) (T.setTop (F0 (mM (cM C)) pc ls (st0.map (cv (cG C))))) ((B.U.setTop { (F0 (mM (cM C)) pc ls (st0.map (cv (cG C)))) with stack := st.map (cv (cG C)) }).pushFrame (.throwing q))))
    (kk : ∀ w1 r1, Y = some (w1, .inl r1) → Jf C (rrX (cG C) push') (Z w1 r1) w1 (pc + 3) lv (push r1 ++ st)) : ∃ t, Steps (mP (cM C)).tables (mE (cM C)) (mB (cM C)) (T.setTop (F0 (mM (cM C)) pc ls (st0.map (cv (cG C))))) t ∧ QF C (rrX (cG C) push') res t := by
  obtain ⟨w1, r1⟩ := r
  have hl : ∀ L : List Loc, (∀ z ∈ L, xB (cG C) ≤ z.base) → ∀ q ∈ locs ++ L, xB (cG C) ≤ q.base := fun L hL q hq => by
    rcases List.mem_append.mp hq with z | z
    · exact h.lc q z
    · exact hL q z
  cases r1 with
  | inl r1 =>
    rcases hr with ⟨v, vm₁, ⟨U', l2, c2, s2⟩, -, XT, ⟨t, L, e1, ⟨⟨v', ov, hv1, hv2⟩, i1, i2, i3⟩, hloc, hL, -, -⟩, go⟩ | ⟨q, vm₁, ⟨U', l2, c2, s2⟩, -, XT, ⟨t, L, e1, ⟨⟨v', ov, -⟩, -⟩, -⟩, -⟩
    · dsimp only [Pt.U, Pt.locs, Pt.cells, Pt.slots] at XT e1 hloc go
      cases ov
      subst hloc
      rw [hY] at hZ
      obtain ⟨t2, a1, b1⟩ := kk w1 r1 hY res hZ U'.heap (locs ++ L) _ _ ls ⟨by rw [e1]; exact i1, i2, h.nx.tr i3, hl L hL, h.lo.nx i3, (fun u hu => by
        rcases List.mem_append.mp hu with z | z
        · exact hv2 u z
        · exact (hst u z).nx i3)⟩ U' rfl XT
      refine ⟨t2, go t2 ?_, b1⟩
      rw [List.map_append, ← hv1] at a1
      exact a1
    · cases ov
  | inr q1 =>
    rcases hr with ⟨v, vm₁, ⟨U', l2, c2, s2⟩, -, XT, ⟨t, L, e1, ⟨⟨ov, -⟩, -⟩, -⟩, -⟩ | ⟨q, vm₁, ⟨U', l2, c2, s2⟩, -, XT, ⟨t, L, e1, ⟨⟨ov, q1l, qk⟩, i1, i2, i3⟩, hloc, hL, -, -⟩, go⟩
    · cases ov
    · dsimp only [Pt.U, Pt.locs, Pt.cells, Pt.slots] at XT e1 hloc go
      cases ov
      subst hloc
      rw [hY] at hZ
      obtain ⟨t2, a1, b1⟩ := j_out (rr := rrX (cG C) push') (r := .inr q1) (w := w1) (pc := pc) (lv := lv) (st := st) (q := q1) K (fun x hx => (hxt x hx).elim) ⟨rfl, q1l, qk⟩ res hZ U'.heap (locs ++ L) _ _ ls ⟨by rw [e1]; exact i1, i2, h.nx.tr i3, hl L hL, h.lo.nx i3, fun u hu => (hst u hu).nx i3⟩ U' rfl XT
      exact ⟨t2, go.trans a1, b1⟩
/-- what has just been made is thrown, out of the method -/
theorem j_outN {α : Type} {push' : α → List AV} {kd : Nat} (K : Cx C cc own d) (hxt : ∀ x ∈ (mC (cM C)).exceptionTable.toList, False) (hk : (Nat.blt 39 kd && Nat.blt kd 44) = true) : Tf C (rrX (cG C) push') (some (nw w kd 0 6, .inr (gN w))) (nw w kd 0 6) pc lv st (gN w) :=
  j_out K (fun x hx => (hxt x hx).elim) ⟨rfl, Nat.lt_succ_self _, Or.inl (by
    rw [gK_nw, if_pos rfl]
    have := blt2 hk
    omega)⟩
/-- 'new E(text)', the object stays on the stack -/
theorem j_mkS {cls text : String} {names : List String} {kd ik is ic : Nat} (K : Cx C cc own d) (hE : excN kd = some cls) (hcls : Bundle.fit cls = true) (hnames : ∀ n ∈ names, Bundle.fit n = true) (h2 : names.length = 2)
    (hk : Cond.classLink own ik cls ∈ lw_all) (hini : Cond.initialized cls ∈ lw_all) (hstr : Cond.stringRef own is text ∈ lw_tbl) (hat1 : ∀ w ∈ (vx_atS own ic cls names).filter goodWord, w ∈ lw_all) (hat2 : ∀ w ∈ (vx_atS own ic cls names).filter (fun w => !goodWord w), w ∈ lw_tbl ∧ nst w = true)
    (hgood : (Cond.classLink own ik cls :: Cond.initialized cls :: vx_atS own ic cls names).all vx_ot = true) (h40 : (Nat.blt 39 kd && Nat.blt kd 50) = true)
    (d0 : decode cc pc = .ok (.new ik, 3)) (d3 : decode cc (pc + 3) = .ok (.dup, 1)) (d4 : decode cc (pc + 4) = .ok (.ldc is, 2)) (d6 : decode cc (pc + 6) = .ok (.invokespecial ic, 3))
    (hd8 : 8 ≤ d) (hrm : room w 6 = true) (hw : Nat.ble (stW st) 8 = true) (kk : Jf C rr X (nw w kd 0 6) (pc + 9) lv (aR kd (some (gN w)) :: st)) : Jf C rr X w pc lv st := by
  intro res hX H locs cells slots ls hI
  obtain ⟨sa, hsa⟩ := K.en.2.1.2.2.1 own is text hstr
  have hrm' := room_spec hrm
  have t9 := blt2 h40
  have hS9 : SlotSum (xB (cG C)) H + 6 ≤ LIMS := Nat.le_trans (Nat.add_le_add_right hI.inv.2.2.2.2.2.1 6) hrm'.2
  refine W.shrink (xB (cG C)) K.b0 (fun h7 h8 => ?_)
  obtain ⟨hRcells, hRslots⟩ := hI.room K h7 h8 (a := 1) (b := 6) hrm'.1 hS9
  have hfr := K.fr
  have hlo := K.lo
  have hw' := Nat.le_of_ble_eq_true hw
  have hat : ∀ w ∈ vx_atS own ic cls names, w.before (mA (cM C)) (mS (cM C)) = true := fun w hw => by
    cases hg : goodWord w with
    | true => exact K.ts w (hat1 w (List.mem_filter.mpr ⟨hw, hg⟩))
    | false =>
      obtain ⟨z1, z2⟩ := hat2 w (List.mem_filter.mpr ⟨hw, by rw [hg]; rfl⟩)
      have h3 := K.en.2.1.1 w z1 z2
      have h4 : w.onTables = true := by
        match w, z2 with
        | .castable _ _, _ => rfl
        | .declares _, _ => rfl
        | .fieldLinkNest _ _ _ _ _ _, _ => rfl
        | .methodLinkNest _ _ _ _, _ => rfl
      exact va_Nw.use h4 h3
  have hgood' : ∀ w ∈ Cond.classLink own ik cls :: Cond.initialized cls :: vx_atS own ic cls names, vx_ot w = true := List.all_eq_true.mp hgood
  have base : ∀ q : Nat, q < (xH (cG C)).size → ¬ (xN (cG C)) q → H[q]? = (xH (cG C))[q]? := fun q hq _ => hI.inv.2.2.2.2.1 q (by rw [← K.gw.2.2]; exact hq)
  intro T hT X0
  subst hT
  have htr : (mE (cM C)).platform.stackTraces = false := (show (mE (cM C)).platform.stackTraces = (mL (cM C)).stackTraces by rw [X0.admits.platform]).trans K.tr
  have Y := vx_rebase X0 (R' := { frames := (mR (cM C)).frames, locals := (mR (cM C)).locals, cells := 1, slots := 6 }) (Nat.le_refl _) (Nat.le_refl _) hRcells hRslots
  obtain ⟨s', hA'⟩ : ∃ z, z = (T.setVm (mS (cM C)).vm).setFrames (.invoking (mM (cM C)) (mA (cM C)) :: (mB (cM C))) := ⟨_, rfl⟩
  rw [← hA'] at Y
  have hvm : s'.vm = (mS (cM C)).vm := by rw [hA']; rfl
  have hhp : s'.heap = T.heap := by rw [hA']; rfl
  have hW0 : (mS (cM C)).WarmedH s'.vm := by rw [hvm]; exact State.WarmedH.refl _
  have hat' : ∀ w ∈ vx_atS own ic cls names, w.before (mA (cM C)) s' = true := fun w hw => vx_ot_at hW0 hvm.symm (hgood' w (List.mem_cons_of_mem _ (List.mem_cons_of_mem _ hw))) (hat w hw)
  have hk' : (Cond.classLink own ik cls).before (mA (cM C)) s' = true := vx_ot_at hW0 hvm.symm (hgood' _ List.mem_cons_self) (K.ts _ hk)
  have hini' : (Cond.initialized cls).before (mA (cM C)) s' = true := vx_ot_at hW0 hvm.symm (hgood' _ (List.mem_cons_of_mem _ List.mem_cons_self)) (K.ts _ hini)
  have hU' : vx_Zq Bundle.tN "UNASSIGNED_STACK" Bundle.steD (xN (cG C)) s' s'.heap := by rw [hhp]; exact vx_Zq.moved hW0.alike (K.en.2.1.2.2.2.1.1.kept base)
  have hN' : vx_Zq Bundle.tN "SUPPRESSED_SENTINEL" Bundle.listD (xN (cG C)) s' s'.heap := by rw [hhp]; exact vx_Zq.moved hW0.alike (K.en.2.1.2.2.2.1.2.1.kept base)
  have h : ∀ w ∈ Bundle.ownAtoms own ic cls names, w.before (mA (cM C)) s' = true := vx_own hat' (vx_isRefq hU'.1) (vx_isRefq hN'.1) hU'.2.word hN'.2.word
  have hown' : s'.vm.findClass own = some (mM (cM C)).cls := by rw [hvm]; exact K.ow
  have hins : (Cond.instantiable cls 6).before (mA (cM C)) s' = true := h _ (by simp [Bundle.ownAtoms])
  obtain ⟨vm₁, cX, kX, hfX, hkX, -, hks, X₁, st1⟩ := Y.newCold K.ex (own := own) (C := cls) (index := ik) (n := 6) hown' hk' hins hini'
    (g := F0 (mM (cM C)) pc ls (st.map (cv (cG C)))) rfl (by rw [K.cb]; exact d0) (Nat.le_refl _) (Nat.le_refl _)
  generalize hT1 : (T.setVm vm₁).pushCell { cls := cX, slots := kX.instanceTypes.map defaultValue, vm := .none } = T1 at X₁ st1
  have hcat : (Value.ref T.heap.size).category = 1 := rfl
  have hcellA : T1.heap[T.heap.size]? = some (freshCell cX kX) := by rw [← hT1]; exact State.heap_pushCell_size _ _
  have d3' : decode (mC (cM C)).code (pc + 3) = .ok (.dup, 1) := by rw [K.cb]; exact d3
  have d4' : decode (mC (cM C)).code (pc + 4) = .ok (.ldc is, 2) := by rw [K.cb]; exact d4
  have hstr' : vk_R own is text sa s' := vk_R.warm hW0 hsa
  obtain ⟨V, ce, L, Z, hL, hlt, hcl9, hvm9, stp⟩ := vx_ctorMadeS X₁ K.ex htr (own := own) (cls := cls) (names := names) (ic := ic) hown' hcls hnames h (fun x hx => nomatch hx) hfX hkX hcellA (by rw [hhp]; exact Nat.le_refl _) (msg := .ref sa) rfl
    (g := { method := (mM (cM C)), pc := pc + 6, locals := ls, stack := .ref sa :: .ref T.heap.size :: .ref T.heap.size :: st.map (cv (cG C)), locked := none }) rfl (hI.lo.1.trans K.ml.symm) (rest := st.map (cv (cG C))) rfl
    (by rw [K.cb]; exact d6) (by rw [h2]; show 2 + 3 < (mR (cM C)).frames; omega) (by
      have e9 := stW_sum (cG C) st
      simp only [List.map_cons, List.sum_cons, hcat, h2]
      show 2 * 0 + (1 + _) + (13 * (2 + 1) + 42) ≤ (mR (cM C)).locals
      omega)
  have Z0 := Stand.forget (locs := []) Z (fun y hy => by rw [hL y hy, hhp]; exact Nat.le_refl _)
  obtain ⟨f1, f2⟩ := vx_frame Z0.same
  have f3 : (V.setCell T.heap.size ce).heap.size ≤ s'.heap.size + (0 + 1) := Z0.same.2.2.1
  have f4 : (((V.setCell T.heap.size ce).heap.toList.drop s'.heap.size).map (·.slots.size)).sum ≤ 0 + 6 := Z0.same.2.2.2.2.1
  rw [hhp] at f1 f2 f3 f4
  have hcid : ce.cls = xK (cG C) kd := by
    rw [hcl9]
    rw [hvm] at hfX
    exact Option.some.inj (hfX.symm.trans (K.en.2.1.2.2.2.2.1 kd cls hE))
  have hh : (V.setCell T.heap.size ce).heap[T.heap.size]? = some ce := heapAt_setCell_self (s := V) ce hlt
  have hsz : (V.setCell T.heap.size ce).heap.size = T.heap.size + 1 := by
    have := (Array.getElem?_eq_some_iff.mp hh).1
    omega
  have hpush : (V.setCell T.heap.size ce).heap = T.heap.push ce := by
    apply Array.ext_getElem?
    intro i
    rw [Array.getElem?_push]
    by_cases e1 : i = T.heap.size
    · rw [if_pos e1, e1, hh]
    · rw [if_neg e1]
      by_cases e2 : i < T.heap.size
      · exact f2 i e2 (fun z hz => nomatch hz)
      · have a1 : (V.setCell T.heap.size ce).heap[i]? = none := Array.getElem?_eq_none (by omega)
        have a2 : T.heap[i]? = none := Array.getElem?_eq_none (by omega)
        rw [a1, a2]
  have hce6 : ce.slots.size ≤ 6 := by
    rw [hpush, Array.toList_push, List.drop_append_of_le_length (by simp), List.map_append, List.sum_append] at f4
    simp at f4
    omega
  subst hA'
  have X5 := vx_back9 X0 Y Z0
  obtain ⟨hinv, hix⟩ := hI.inv.new (kd := kd) (ln := 0) (sl := 6) (c := ce) K.gw (Or.inr ⟨ce, rfl, hvm9, hcid, fun z => absurd z (by omega), fun _ z => absurd z (by omega)⟩) hce6 hrm'.1 hrm'.2
  have hnx : Nx w (nw w kd 0 6) := nx_nw (Nx.rf w) kd 0 6
  have hty : Ty (nw w kd 0 6) kd (some (gN w)) := fun b e => by
    cases e
    refine ⟨Nat.lt_succ_self _, ?_⟩
    rw [gK_nw, if_pos rfl]
    unfold okT
    rw [if_pos t9.2]
    simp
  obtain ⟨t, a1, b1⟩ := kk res hX (V.setCell T.heap.size ce).heap locs _ _ ls ⟨by rw [hpush]; exact hinv, fun e => fx_nw (hI.fx e) kd 0 6, hI.nx.tr hnx, hI.lc, hI.lo.nx hnx, okc hty (fun u hu => (hI.ok u hu).nx hnx)⟩ (V.setCell T.heap.size ce) rfl X5
  refine ⟨t, st1 _ ?_, b1⟩
  show Steps (mP (cM C)).tables (mE (cM C)) (mB (cM C)) (T1.setTop { method := (mM (cM C)), pc := pc + 3, locals := ls, stack := .ref T.heap.size :: st.map (cv (cG C)), locked := none }) _
  jvm_step X₁.here [X₁.here.top, K.ex, d3', Value.category]
  refine X₁.ldcString K.ex (own := own) (text := text) (index := is) (a := sa) hown' hstr'.1 hstr'.2
    (g := { method := (mM (cM C)), pc := pc + 4, locals := ls, stack := .ref T.heap.size :: .ref T.heap.size :: st.map (cv (cG C)), locked := none }) rfl d4' _ (stp _ ?_)
  have e5 : cv (cG C) (aR kd (some (gN w))) = .ref T.heap.size := by
    show va_rf (some (xA (cG C) (gN w))) = _
    rw [hix]
    rfl
  rw [List.map_cons, e5] at a1
  exact a1
/-- 'new E(text)', the object stays on the stack -/
theorem j_mkW {cls text : String} {names : List String} {kd ik is ic : Nat} (K : Cx C cc own d) (hE : excN kd = some cls) (hcls : Bundle.fit cls = true) (hnames : ∀ n ∈ names, Bundle.fit n = true) (h2 : names.length = 2)
    (hk : Cond.classLink own ik cls ∈ lw_all) (hini : Cond.initialized cls ∈ lw_all) (hstr : Cond.stringRef own is text ∈ lw_tbl) (hat1 : ∀ w ∈ (vx_atS own ic cls names).filter goodWord, w ∈ lw_all) (hat2 : ∀ w ∈ (vx_atS own ic cls names).filter (fun w => !goodWord w), w ∈ lw_tbl ∧ nst w = true)
    (hgood : (Cond.classLink own ik cls :: Cond.initialized cls :: vx_atS own ic cls names).all vx_ot = true) (h40 : (Nat.blt 39 kd && Nat.blt kd 50) = true)
    (d0 : decode cc pc = .ok (.new ik, 3)) (d3 : decode cc (pc + 3) = .ok (.dup, 1)) (d4 : decode cc (pc + 4) = .ok (.ldc_w is, 3)) (d6 : decode cc (pc + 7) = .ok (.invokespecial ic, 3))
    (hd8 : 8 ≤ d) (hrm : room w 6 = true) (hw : Nat.ble (stW st) 8 = true) (kk : Jf C rr X (nw w kd 0 6) (pc + 10) lv (aR kd (some (gN w)) :: st)) : Jf C rr X w pc lv st := by
  intro res hX H locs cells slots ls hI
  obtain ⟨sa, hsa⟩ := K.en.2.1.2.2.1 own is text hstr
  have hrm' := room_spec hrm
  have t9 := blt2 h40
  have hS9 : SlotSum (xB (cG C)) H + 6 ≤ LIMS := Nat.le_trans (Nat.add_le_add_right hI.inv.2.2.2.2.2.1 6) hrm'.2
  refine W.shrink (xB (cG C)) K.b0 (fun h7 h8 => ?_)
  obtain ⟨hRcells, hRslots⟩ := hI.room K h7 h8 (a := 1) (b := 6) hrm'.1 hS9
  have hfr := K.fr
  have hlo := K.lo
  have hw' := Nat.le_of_ble_eq_true hw
  have hat : ∀ w ∈ vx_atS own ic cls names, w.before (mA (cM C)) (mS (cM C)) = true := fun w hw => by
    cases hg : goodWord w with
    | true => exact K.ts w (hat1 w (List.mem_filter.mpr ⟨hw, hg⟩))
    | false =>
      obtain ⟨z1, z2⟩ := hat2 w (List.mem_filter.mpr ⟨hw, by rw [hg]; rfl⟩)
      have h3 := K.en.2.1.1 w z1 z2
      have h4 : w.onTables = true := by
        match w, z2 with
        | .castable _ _, _ => rfl
        | .declares _, _ => rfl
        | .fieldLinkNest _ _ _ _ _ _, _ => rfl
        | .methodLinkNest _ _ _ _, _ => rfl
      exact va_Nw.use h4 h3
  have hgood' : ∀ w ∈ Cond.classLink own ik cls :: Cond.initialized cls :: vx_atS own ic cls names, vx_ot w = true := List.all_eq_true.mp hgood
  have base : ∀ q : Nat, q < (xH (cG C)).size → ¬ (xN (cG C)) q → H[q]? = (xH (cG C))[q]? := fun q hq _ => hI.inv.2.2.2.2.1 q (by rw [← K.gw.2.2]; exact hq)
  intro T hT X0
  subst hT
  have htr : (mE (cM C)).platform.stackTraces = false := (show (mE (cM C)).platform.stackTraces = (mL (cM C)).stackTraces by rw [X0.admits.platform]).trans K.tr
  have Y := vx_rebase X0 (R' := { frames := (mR (cM C)).frames, locals := (mR (cM C)).locals, cells := 1, slots := 6 }) (Nat.le_refl _) (Nat.le_refl _) hRcells hRslots
  obtain ⟨s', hA'⟩ : ∃ z, z = (T.setVm (mS (cM C)).vm).setFrames (.invoking (mM (cM C)) (mA (cM C)) :: (mB (cM C))) := ⟨_, rfl⟩
  rw [← hA'] at Y
  have hvm : s'.vm = (mS (cM C)).vm := by rw [hA']; rfl
  have hhp : s'.heap = T.heap := by rw [hA']; rfl
  have hW0 : (mS (cM C)).WarmedH s'.vm := by rw [hvm]; exact State.WarmedH.refl _
  have hat' : ∀ w ∈ vx_atS own ic cls names, w.before (mA (cM C)) s' = true := fun w hw => vx_ot_at hW0 hvm.symm (hgood' w (List.mem_cons_of_mem _ (List.mem_cons_of_mem _ hw))) (hat w hw)
  have hk' : (Cond.classLink own ik cls).before (mA (cM C)) s' = true := vx_ot_at hW0 hvm.symm (hgood' _ List.mem_cons_self) (K.ts _ hk)
  have hini' : (Cond.initialized cls).before (mA (cM C)) s' = true := vx_ot_at hW0 hvm.symm (hgood' _ (List.mem_cons_of_mem _ List.mem_cons_self)) (K.ts _ hini)
  have hU' : vx_Zq Bundle.tN "UNASSIGNED_STACK" Bundle.steD (xN (cG C)) s' s'.heap := by rw [hhp]; exact vx_Zq.moved hW0.alike (K.en.2.1.2.2.2.1.1.kept base)
  have hN' : vx_Zq Bundle.tN "SUPPRESSED_SENTINEL" Bundle.listD (xN (cG C)) s' s'.heap := by rw [hhp]; exact vx_Zq.moved hW0.alike (K.en.2.1.2.2.2.1.2.1.kept base)
  have h : ∀ w ∈ Bundle.ownAtoms own ic cls names, w.before (mA (cM C)) s' = true := vx_own hat' (vx_isRefq hU'.1) (vx_isRefq hN'.1) hU'.2.word hN'.2.word
  have hown' : s'.vm.findClass own = some (mM (cM C)).cls := by rw [hvm]; exact K.ow
  have hins : (Cond.instantiable cls 6).before (mA (cM C)) s' = true := h _ (by simp [Bundle.ownAtoms])
  obtain ⟨vm₁, cX, kX, hfX, hkX, -, hks, X₁, st1⟩ := Y.newCold K.ex (own := own) (C := cls) (index := ik) (n := 6) hown' hk' hins hini'
    (g := F0 (mM (cM C)) pc ls (st.map (cv (cG C)))) rfl (by rw [K.cb]; exact d0) (Nat.le_refl _) (Nat.le_refl _)
  generalize hT1 : (T.setVm vm₁).pushCell { cls := cX, slots := kX.instanceTypes.map defaultValue, vm := .none } = T1 at X₁ st1
  have hcat : (Value.ref T.heap.size).category = 1 := rfl
  have hcellA : T1.heap[T.heap.size]? = some (freshCell cX kX) := by rw [← hT1]; exact State.heap_pushCell_size _ _
  have d3' : decode (mC (cM C)).code (pc + 3) = .ok (.dup, 1) := by rw [K.cb]; exact d3
  have d4' : decode (mC (cM C)).code (pc + 4) = .ok (.ldc_w is, 3) := by rw [K.cb]; exact d4
  have hstr' : vk_R own is text sa s' := vk_R.warm hW0 hsa
  obtain ⟨V, ce, L, Z, hL, hlt, hcl9, hvm9, stp⟩ := vx_ctorMadeS X₁ K.ex htr (own := own) (cls := cls) (names := names) (ic := ic) hown' hcls hnames h (fun x hx => nomatch hx) hfX hkX hcellA (by rw [hhp]; exact Nat.le_refl _) (msg := .ref sa) rfl
    (g := { method := (mM (cM C)), pc := pc + 7, locals := ls, stack := .ref sa :: .ref T.heap.size :: .ref T.heap.size :: st.map (cv (cG C)), locked := none }) rfl (hI.lo.1.trans K.ml.symm) (rest := st.map (cv (cG C))) rfl
    (by rw [K.cb]; exact d6) (by rw [h2]; show 2 + 3 < (mR (cM C)).frames; omega) (by
      have e9 := stW_sum (cG C) st
      simp only [List.map_cons, List.sum_cons, hcat, h2]
      show 2 * 0 + (1 + _) + (13 * (2 + 1) + 42) ≤ (mR (cM C)).locals
      omega)
  have Z0 := Stand.forget (locs := []) Z (fun y hy => by rw [hL y hy, hhp]; exact Nat.le_refl _)
  obtain ⟨f1, f2⟩ := vx_frame Z0.same
  have f3 : (V.setCell T.heap.size ce).heap.size ≤ s'.heap.size + (0 + 1) := Z0.same.2.2.1
  have f4 : (((V.setCell T.heap.size ce).heap.toList.drop s'.heap.size).map (·.slots.size)).sum ≤ 0 + 6 := Z0.same.2.2.2.2.1
  rw [hhp] at f1 f2 f3 f4
  have hcid : ce.cls = xK (cG C) kd := by
    rw [hcl9]
    rw [hvm] at hfX
    exact Option.some.inj (hfX.symm.trans (K.en.2.1.2.2.2.2.1 kd cls hE))
  have hh : (V.setCell T.heap.size ce).heap[T.heap.size]? = some ce := heapAt_setCell_self (s := V) ce hlt
  have hsz : (V.setCell T.heap.size ce).heap.size = T.heap.size + 1 := by
    have := (Array.getElem?_eq_some_iff.mp hh).1
    omega
  have hpush : (V.setCell T.heap.size ce).heap = T.heap.push ce := by
    apply Array.ext_getElem?
    intro i
    rw [Array.getElem?_push]
    by_cases e1 : i = T.heap.size
    · rw [if_pos e1, e1, hh]
    · rw [if_neg e1]
      by_cases e2 : i < T.heap.size
      · exact f2 i e2 (fun z hz => nomatch hz)
      · have a1 : (V.setCell T.heap.size ce).heap[i]? = none := Array.getElem?_eq_none (by omega)
        have a2 : T.heap[i]? = none := Array.getElem?_eq_none (by omega)
        rw [a1, a2]
  have hce6 : ce.slots.size ≤ 6 := by
    rw [hpush, Array.toList_push, List.drop_append_of_le_length (by simp), List.map_append, List.sum_append] at f4
    simp at f4
    omega
  subst hA'
  have X5 := vx_back9 X0 Y Z0
  obtain ⟨hinv, hix⟩ := hI.inv.new (kd := kd) (ln := 0) (sl := 6) (c := ce) K.gw (Or.inr ⟨ce, rfl, hvm9, hcid, fun z => absurd z (by omega), fun _ z => absurd z (by omega)⟩) hce6 hrm'.1 hrm'.2
  have hnx : Nx w (nw w kd 0 6) := nx_nw (Nx.rf w) kd 0 6
  have hty : Ty (nw w kd 0 6) kd (some (gN w)) := fun b e => by
    cases e
    refine ⟨Nat.lt_succ_self _, ?_⟩
    rw [gK_nw, if_pos rfl]
    unfold okT
    rw [if_pos t9.2]
    simp
  obtain ⟨t, a1, b1⟩ := kk res hX (V.setCell T.heap.size ce).heap locs _ _ ls ⟨by rw [hpush]; exact hinv, fun e => fx_nw (hI.fx e) kd 0 6, hI.nx.tr hnx, hI.lc, hI.lo.nx hnx, okc hty (fun u hu => (hI.ok u hu).nx hnx)⟩ (V.setCell T.heap.size ce) rfl X5
  refine ⟨t, st1 _ ?_, b1⟩
  show Steps (mP (cM C)).tables (mE (cM C)) (mB (cM C)) (T1.setTop { method := (mM (cM C)), pc := pc + 3, locals := ls, stack := .ref T.heap.size :: st.map (cv (cG C)), locked := none }) _
  jvm_step X₁.here [X₁.here.top, K.ex, d3', Value.category]
  refine X₁.ldcStringW K.ex (own := own) (text := text) (index := is) (a := sa) hown' hstr'.1 hstr'.2
    (g := { method := (mM (cM C)), pc := pc + 4, locals := ls, stack := .ref T.heap.size :: .ref T.heap.size :: st.map (cv (cG C)), locked := none }) rfl d4' _ (stp _ ?_)
  have e5 : cv (cG C) (aR kd (some (gN w))) = .ref T.heap.size := by
    show va_rf (some (xA (cG C) (gN w))) = _
    rw [hix]
    rfl
  rw [List.map_cons, e5] at a1
  exact a1
theorem j_callVX {α : Type} {push' : α → List AV} {Y : Option (Wd × (β ⊕ Nat))} {Z : Wd → β → Option (Wd × (α ⊕ Nat))} {t b : Nat} {v : Option Nat} {Cn : String} {T9 : u_T} {N : Nat} (As : List AV) (K : Cx C cc own (d + 1)) (hxt : ∀ x ∈ (mC (cM C)).exceptionTable.toList, False) (hM : Mt (cG C) (cF C) (mL (cM C)) y (ws_ y cb nb ret) d (rrX (cG C) push) (aR t (some b) :: As) w Y) (hd : decode cc pc = .ok (.invokevirtual ix, 3)) (hc : clz t = some (Cn, T9, N)) (ht : (Nat.blt 0 t && Nat.blt t 10) = true)
    (q1 : Cond.methodLink own ix y ∈ lw_all) (q2 : Cond.instanceMethod y ∈ lw_all) (q3 : Cond.selects Cn y y ∈ lw_all) (q4 : Cond.initialized Cn ∈ lw_all) (q5 : Cond.code y cb nb ret ∈ lw_all)
    (hp : y.cls = Cn ∧ y.cls ≠ "java/lang/invoke/MethodHandle" ∧ y.cls ≠ "java/lang/invoke/VarHandle" ∧ (parseMethodDescriptor y.desc).map (fun d => d.parameters.length) = some n) (hnb : Nat.ble nb 45 = true) (hn : As.length = n) (hst : st0 = As.reverse ++ aR t v :: st) (hb : v = some b) (hw : Nat.ble (stW st) 8 = true)
    (kk : ∀ w1 r1, Y = some (w1, .inl r1) → Jf C (rrX (cG C) push') (Z w1 r1) w1 (pc + 3) lv (push r1 ++ st)) : Jf C (rrX (cG C) push') (bX Y Z) w pc lv st0 :=
  fun res hX H locs cells slots ls h => by
    obtain ⟨r, hY⟩ : ∃ r, Y = some r := by
      cases Y with
      | none => cases hX
      | some r => exact ⟨r, rfl⟩
    subst hst
    subst hb
    have t9 := blt2 ht
    have hok : ∀ u ∈ aR t (some b) :: As, OkV w u := fun u hu => by
      rcases List.mem_cons.mp hu with z | z
      · rw [z]; exact h.ok _ (List.mem_append_right _ List.mem_cons_self)
      · exact h.ok _ (List.mem_append_left _ (List.mem_reverse.mpr z))
    have hst' : ∀ u ∈ st, OkV w u := fun u hu => h.ok _ (List.mem_append_right _ (List.mem_cons_of_mem _ hu))
    obtain ⟨-, -, c, c1, c2, c3, -⟩ := h.cell (by omega) (by omega) (hok _ List.mem_cons_self)
    refine W.shrink (xB (cG C)) K.b0 (fun h7 h8 => ?_)
    have hrm := h.room K h7 h8 (a := LIMC + 8 - gN w) (b := LIMS - SlotSum (xB (cG C)) H) (by have := h.cl; omega) (by have := h.sl; omega)
    have hfr := K.fr
    have hlo := K.lo
    have hnb' := Nat.le_of_ble_eq_true hnb
    have cwV9 := cwV (R := mR (cM C)) (rm := rmm d w (SlotSum (xB (cG C)) H)) (mc := LIMC + 8 - gN w) (ms := LIMS - SlotSum (xB (cG C)) H) n K.ts (lw_V q1 q2 q3 q4 q5) rfl rfl rfl hp ⟨hfr, by show 8 + (nb + 11) + 64 * d ≤ _; omega⟩
    have cw := cwV9.1
    intro T hT X0
    have hK : vx_Back (mL (cM C)) (mR (cM C)) (mP (cM C)) (mE (cM C)) (mB (cM C)) (mS (cM C)) (mA (cM C)) y 3 8 (PreOf (mR (cM C)) (LIMC + 8 - gN w) (LIMS - SlotSum (xB (cG C)) H) (PcM (cG C) (cF C) (aR t (some b) :: As) w (SlotSum (xB (cG C)) H))) _ _ := mx_back (bytes := cb) (maxL := nb) (ret := ret) (hM.free hY (SlotSum (xB (cG C)) H)) PcM.blind rfl rfl hfr (by show 8 + (nb + 11) + 64 * d ≤ _; omega) cw.2.2.2.2.1 (Or.inl List.mem_cons_self) (fun a' U hW => word_at hW (Or.inl (by first | rfl | simp [Cond.onTables, Cond.keeps, Cond.steady])) cw.2.2.2.2.2.2.2.1)
    exact callX_go K hxt h hst' hY hX (vx_callV X0 K.ex (C := Cn) (bytes := cb) (maxL := nb) (ret := ret) (b := xA (cG C) b) K.ow (K.ts _ q1) (K.ts _ q2) (K.ts _ q3) (K.ts _ q5) ⟨hp.2.1, hp.2.2.1⟩ hK (by rw [hT]; exact c1) (by rw [c2]; rfl) (by rw [c3]; exact (K.en.1.1 t _ _ _ hc).2.1) (g := F0 (mM (cM C)) pc ls ((As.reverse ++ aR t (some b) :: st).map (cv (cG C)))) rfl (h.lo.1.trans K.ml.symm) (argsL := As.map (cv (cG C))) (rest := st.map (cv (cG C))) (fun sig hs => by rw [List.length_map, hn]; exact cw.2.2.2.2.2.2.2.2.2.1 sig hs) (map_rs _ _ _ _) (lv_room (by rw [stW_sum]; exact Nat.le_of_ble_eq_true hw)) (by rw [K.cb]; exact hd)
      (fun vm₁ hW₁ => ⟨hrm.1, hrm.2, pre_ok K h hok rfl (T.setVm vm₁) hT hW₁⟩)) kk
theorem j_callSX {α : Type} {push' : α → List AV} {Y : Option (Wd × (β ⊕ Nat))} {Z : Wd → β → Option (Wd × (α ⊕ Nat))} (As : List AV) (K : Cx C cc own (d + 1)) (hxt : ∀ x ∈ (mC (cM C)).exceptionTable.toList, False) (hM : Mt (cG C) (cF C) (mL (cM C)) y (ws_ y cb nb ret) d (rrX (cG C) push) As w Y) (hd : decode cc pc = .ok (.invokestatic ix, 3))
    (q1 : Cond.methodLink own ix y ∈ lw_all) (q2 : Cond.static y ∈ lw_all) (q4 : Cond.initialized y.cls ∈ lw_all) (q5 : Cond.code y cb nb ret ∈ lw_all)
    (hp : y.cls ≠ "java/lang/invoke/MethodHandle" ∧ y.cls ≠ "java/lang/invoke/VarHandle" ∧ (parseMethodDescriptor y.desc).map (fun d => d.parameters.length) = some n) (hnb : Nat.ble nb 45 = true) (hn : As.length = n) (hst : st0 = As.reverse ++ st) (hw : Nat.ble (stW st) 8 = true)
    (kk : ∀ w1 r1, Y = some (w1, .inl r1) → Jf C (rrX (cG C) push') (Z w1 r1) w1 (pc + 3) lv (push r1 ++ st)) : Jf C (rrX (cG C) push') (bX Y Z) w pc lv st0 :=
  fun res hX H locs cells slots ls h => by
    obtain ⟨r, hY⟩ : ∃ r, Y = some r := by
      cases Y with
      | none => cases hX
      | some r => exact ⟨r, rfl⟩
    subst hst
    have hok : ∀ u ∈ As, OkV w u := fun u hu => h.ok _ (List.mem_append_left _ (List.mem_reverse.mpr hu))
    have hst' : ∀ u ∈ st, OkV w u := fun u hu => h.ok _ (List.mem_append_right _ hu)
    refine W.shrink (xB (cG C)) K.b0 (fun h7 h8 => ?_)
    have hrm := h.room K h7 h8 (a := LIMC + 8 - gN w) (b := LIMS - SlotSum (xB (cG C)) H) (by have := h.cl; omega) (by have := h.sl; omega)
    have hfr := K.fr
    have hlo := K.lo
    have hnb' := Nat.le_of_ble_eq_true hnb
    have cwS9 := va_cwS (R := mR (cM C)) (rm := rmm d w (SlotSum (xB (cG C)) H)) (mc := LIMC + 8 - gN w) (ms := LIMS - SlotSum (xB (cG C)) H) n K.ts (lw_S q1 q2 q4 q5) rfl rfl rfl hp ⟨hfr, by show 8 + (nb + 11) + 64 * d ≤ _; omega⟩
    have cw := cwS9.1
    intro T hT X0
    have hK : vx_Back (mL (cM C)) (mR (cM C)) (mP (cM C)) (mE (cM C)) (mB (cM C)) (mS (cM C)) (mA (cM C)) y 3 8 (PreOf (mR (cM C)) (LIMC + 8 - gN w) (LIMS - SlotSum (xB (cG C)) H) (PcM (cG C) (cF C) As w (SlotSum (xB (cG C)) H))) _ _ := mx_back (bytes := cb) (maxL := nb) (ret := ret) (hM.free hY (SlotSum (xB (cG C)) H)) PcM.blind rfl rfl hfr (by show 8 + (nb + 11) + 64 * d ≤ _; omega) cw.2.2.2.2.1 (Or.inl List.mem_cons_self) (fun a' U hW => word_at hW (Or.inl (by first | rfl | simp [Cond.onTables, Cond.keeps, Cond.steady])) cw.2.2.2.2.2.2.2.1)
    exact callX_go K hxt h hst' hY hX (vx_callS X0 K.ex (bytes := cb) (maxL := nb) (ret := ret) K.ow (K.ts _ q1) (K.ts _ q2) (K.ts _ q4) (K.ts _ q5) ⟨hp.1, hp.2.1⟩ hK (g := F0 (mM (cM C)) pc ls ((As.reverse ++ st).map (cv (cG C)))) rfl (h.lo.1.trans K.ml.symm) (argsL := As.map (cv (cG C))) (rest := st.map (cv (cG C))) (fun sig hs => by rw [List.length_map, hn]; exact cw.2.2.2.2.2.2.2.2.2.1 sig hs) (by show List.map _ _ = _; rw [List.map_append, List.map_reverse]) (lv_room (by rw [stW_sum]; exact Nat.le_of_ble_eq_true hw)) (by rw [K.cb]; exact hd)
      (fun vm₁ hW₁ => ⟨hrm.1, hrm.2, pre_ok K h hok rfl (T.setVm vm₁) hT hW₁⟩)) kk
end JX
