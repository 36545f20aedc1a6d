set_option maxRecDepth 100000
theorem shape_site {cf : ClassFile} {index : Nat} {σ : Lambda.Shape} (h : Lambda.shapeOf? cf index = some σ) : ∃ (b nt : Nat) (name desc : String) (sig : MethodDescriptor), cf.constantPool[index]? = some (.invokeDynamic b nt) ∧ cf.constantPool.nameAndType? nt = some (name, desc) ∧ parseLongMethodDescriptor desc = some sig ∧ sig.parameters = σ.captured := by
  unfold Lambda.shapeOf? at h
  rcases hx : cf.constantPool[index]? with _ | x
  · rw [hx] at h
    cases h
  rw [hx] at h
  cases x <;> try (cases h; done)
  rename_i b nt
  obtain ⟨entries, -, h⟩ := Option.bind_eq_some_iff.mp h
  obtain ⟨bm, -, h⟩ := Option.bind_eq_some_iff.mp h
  rcases hy : cf.constantPool[bm.bootstrapMethodRef]? with _ | x
  · rw [hy] at h
    cases h
  rw [hy] at h
  cases x <;> try (cases h; done)
  rename_i kd r
  rcases kd with _ | _ | _ | _ | _ | _ | _ | kd <;> try (cases h; done)
  obtain ⟨u1, -, h⟩ := Option.bind_eq_some_iff.mp h
  generalize bm.bootstrapArguments = x at h
  rcases x with ⟨l⟩
  rcases l with _ | ⟨a0, _ | ⟨a1, _ | ⟨a2, _ | ⟨a3, l⟩⟩⟩⟩ <;> try (cases h; done)
  replace h : (match cf.constantPool[a0]? with | some (.methodType d0) => _ | _ => _) = some σ := h
  rcases h1 : cf.constantPool[a0]? with _ | x
  · rw [h1] at h
    cases h
  rw [h1] at h
  cases x <;> try (cases h; done)
  rename_i d0
  replace h : (match cf.constantPool[a1]? with | some (.methodHandle k r1) => _ | _ => _) = some σ := h
  rcases h2 : cf.constantPool[a1]? with _ | x
  · rw [h2] at h
    cases h
  rw [h2] at h
  cases x <;> try (cases h; done)
  rename_i k r1
  replace h : (match cf.constantPool[a2]? with | some (.methodType d2) => _ | _ => _) = some σ := h
  rcases h3 : cf.constantPool[a2]? with _ | x
  · rw [h3] at h
    cases h
  rw [h3] at h
  cases x <;> try (cases h; done)
  rename_i d2
  obtain ⟨⟨name, desc⟩, hnd, h⟩ := Option.bind_eq_some_iff.mp h
  obtain ⟨site, hsite, h⟩ := Option.bind_eq_some_iff.mp h
  obtain ⟨ps, rt⟩ := site
  rcases rt with _ | ty
  · cases h
  cases ty <;> try (cases h; done)
  rename_i iface
  obtain ⟨⟨ic, im, ids, ii⟩, -, h⟩ := Option.bind_eq_some_iff.mp h
  obtain ⟨s0, -, h⟩ := Option.bind_eq_some_iff.mp h
  obtain ⟨x1, -, h⟩ := Option.bind_eq_some_iff.mp h
  obtain ⟨x2, -, h⟩ := Option.bind_eq_some_iff.mp h
  obtain ⟨s2, -, h⟩ := Option.bind_eq_some_iff.mp h
  obtain ⟨x3, -, h⟩ := Option.bind_eq_some_iff.mp h
  cases h
  exact ⟨b, nt, name, desc, _, rfl, hnd, parseLong_of_parse hsite, rfl⟩
/-- places of a new cell are filled -/
def setA (w : Wd) (a k : Nat) (v : AV) : Wd := match v with
  | .inl q => sI w a k q.2
  | .inr (.inl _) => w
  | .inr (.inr q) => sR w a k q.2
def setAs (w : Wd) (a : Nat) : Nat → List AV → Wd
  | _, [] => w
  | k, v :: l => setAs (setA w a k v) a (k + 1) l
def lamA (kd : Nat) : Nat → List AV → Bool
  | _, [] => true
  | k, .inl _ :: l => rt kd k == 99 && lamA kd (k + 1) l
  | _, .inr (.inl _) :: _ => false
  | k, .inr (.inr q) :: l => rt kd k == q.1 && !(q.1 == 99) && lamA kd (k + 1) l
theorem setA_off (w : Wd) (a k : Nat) (v : AV) : gN (setA w a k v) = gN w ∧ gS (setA w a k v) = gS w ∧ (∀ b, gK (setA w a k v) b = gK w b) ∧ (∀ b, gL (setA w a k v) b = gL w b) ∧ (∀ b, b ≠ a → gI (setA w a k v) b = gI w b ∧ gR (setA w a k v) b = gR w b ∧ gJ (setA w a k v) b = gJ w b) ∧ (∀ j, j ≠ k → gI (setA w a k v) a j = gI w a j ∧ gR (setA w a k v) a j = gR w a j) := by
  match v with
  | .inl q => exact ⟨rfl, rfl, fun _ => rfl, fun _ => rfl, fun b hb => ⟨by funext j; show gI (sI w a k q.2) b j = _; rw [gI_sI, if_neg (fun z => hb z.1)], rfl, rfl⟩, fun j hj => ⟨by show gI (sI w a k q.2) a j = _; rw [gI_sI, if_neg (fun z => hj z.2)], rfl⟩⟩
  | .inr (.inl x) => exact ⟨rfl, rfl, fun _ => rfl, fun _ => rfl, fun b hb => ⟨rfl, rfl, rfl⟩, fun j hj => ⟨rfl, rfl⟩⟩
  | .inr (.inr q) => exact ⟨rfl, rfl, fun _ => rfl, fun _ => rfl, fun b hb => ⟨rfl, by funext j; show gR (sR w a k q.2) b j = _; rw [gR_sR, if_neg (fun z => hb z.1)], rfl⟩, fun j hj => ⟨rfl, by show gR (sR w a k q.2) a j = _; rw [gR_sR, if_neg (fun z => hj z.2)]⟩⟩
theorem setAs_off (a : Nat) : ∀ (l : List AV) (w : Wd) (k : Nat), gN (setAs w a k l) = gN w ∧ gS (setAs w a k l) = gS w ∧ (∀ b, gK (setAs w a k l) b = gK w b) ∧ (∀ b, gL (setAs w a k l) b = gL w b) ∧ (∀ b, b ≠ a → gI (setAs w a k l) b = gI w b ∧ gR (setAs w a k l) b = gR w b ∧ gJ (setAs w a k l) b = gJ w b) ∧ (∀ j, j < k → gI (setAs w a k l) a j = gI w a j ∧ gR (setAs w a k l) a j = gR w a j)
  | [], w, k => ⟨rfl, rfl, fun _ => rfl, fun _ => rfl, fun _ _ => ⟨rfl, rfl, rfl⟩, fun _ _ => ⟨rfl, rfl⟩⟩
  | v :: l, w, k => by
    obtain ⟨a1, a2, a3, a4, a5, a6⟩ := setAs_off a l (setA w a k v) (k + 1)
    obtain ⟨b1, b2, b3, b4, b5, b6⟩ := setA_off w a k v
    refine ⟨a1.trans b1, a2.trans b2, fun b => (a3 b).trans (b3 b), fun b => (a4 b).trans (b4 b), fun b hb => ?_, fun j hj => ?_⟩
    · obtain ⟨c1, c2, c3⟩ := a5 b hb
      obtain ⟨d1, d2, d3⟩ := b5 b hb
      exact ⟨c1.trans d1, c2.trans d2, c3.trans d3⟩
    · obtain ⟨c1, c2⟩ := a6 j (by omega)
      obtain ⟨d1, d2⟩ := b6 j (by omega)
      exact ⟨c1.trans d1, c2.trans d2⟩
theorem setAs_at (G : Gx) (a kd : Nat) (h13 : kd ≠ 13) : ∀ (l : List AV) (w : Wd) (k : Nat), lamA kd k l = true → ∀ (i : Nat) (v : AV), l[i]? = some v → ∀ J, vS G kd (k + i) (gI (setAs w a k l) a (k + i)) (gR (setAs w a k l) a (k + i)) J = cv G v
  | [], w, k, _, i, v, hi, J => by simp at hi
  | u :: l, w, k, hl, 0, v, hi, J => by
    simp only [List.getElem?_cons_zero, Option.some.injEq] at hi
    subst hi
    obtain ⟨-, -, -, -, -, a6⟩ := setAs_off a l (setA w a k u) (k + 1)
    obtain ⟨c1, c2⟩ := a6 k (by omega)
    show vS G kd (k + 0) (gI (setAs (setA w a k u) a (k + 1) l) a (k + 0)) (gR (setAs (setA w a k u) a (k + 1) l) a (k + 0)) J = _
    rw [Nat.add_zero, c1, c2]
    match u, hl with
    | .inl q, hl =>
      simp only [lamA, Bool.and_eq_true, beq_iff_eq] at hl
      show vS G kd k (gI (sI w a k q.2) a k) _ J = .int q.2
      rw [gI_sI, if_pos ⟨rfl, rfl⟩]
      unfold vS
      rw [if_pos hl.1, if_neg h13]
    | .inr (.inr q), hl =>
      simp only [lamA, Bool.and_eq_true, beq_iff_eq, Bool.not_eq_true', beq_eq_false_iff_ne] at hl
      show vS G kd k _ (gR (sR w a k q.2) a k) J = rf G q.2
      rw [gR_sR, if_pos ⟨rfl, rfl⟩]
      unfold vS
      rw [if_neg (by rw [hl.1.1]; exact hl.1.2)]
  | u :: l, w, k, hl, i + 1, v, hi, J => by
    simp only [List.getElem?_cons_succ] at hi
    have hl' : lamA kd (k + 1) l = true := by
      match u, hl with
      | .inl q, hl => simp only [lamA, Bool.and_eq_true] at hl; exact hl.2
      | .inr (.inr q), hl => simp only [lamA, Bool.and_eq_true] at hl; exact hl.2
    have ih := setAs_at G a kd h13 l (setA w a k u) (k + 1) hl' i v hi J
    have e : k + 1 + i = k + (i + 1) := by omega
    rw [e] at ih
    exact ih
theorem setAs_ref (a kd : Nat) : ∀ (l : List AV) (w : Wd) (k : Nat), lamA kd k l = true → ∀ (j x : Nat), gR (setAs w a k l) a j = some x → gR w a j = some x ∨ ∃ t, aR t (some x) ∈ l ∧ rt kd j = t
  | [], w, k, _, j, x, h => Or.inl h
  | u :: l, w, k, hl, j, x, h => by
    have hl' : lamA kd (k + 1) l = true := by
      match u, hl with
      | .inl q, hl => simp only [lamA, Bool.and_eq_true] at hl; exact hl.2
      | .inr (.inr q), hl => simp only [lamA, Bool.and_eq_true] at hl; exact hl.2
    rcases setAs_ref a kd l (setA w a k u) (k + 1) hl' j x h with h1 | ⟨t, h1, h2⟩
    · by_cases e : j = k
      · subst e
        match u, hl with
        | .inl q, _ => exact Or.inl h1
        | .inr (.inr (t, z)), hl =>
          simp only [lamA, Bool.and_eq_true, beq_iff_eq] at hl
          have h3 : gR (sR w a j z) a j = some x := h1
          rw [gR_sR, if_pos ⟨rfl, rfl⟩] at h3
          subst h3
          exact Or.inr ⟨t, List.mem_cons_self, hl.1.1⟩
      · rw [((setA_off w a k u).2.2.2.2.2 j e).2] at h1
        exact Or.inl h1
    · exact Or.inr ⟨t, List.mem_cons_of_mem _ h1, h2⟩
/-- a new lambda's object -/
theorem Inv.lam {G : Gx} {w : Wd} {H : Heap} {kd : Nat} {As : List AV} (hG : GW G) (h : Inv G w H) (k1 : 20 ≤ kd) (k2 : kd < 40) (hA : lamA kd 0 As = true) (hok : ∀ u ∈ As, OkV w u) (h1 : gN w + 1 ≤ LIMC + 8) (h2 : gS w + As.length ≤ LIMS) :
    Inv G (setAs (nw w kd As.length As.length) (gN w) 0 As) (H.push { cls := xK G kd, slots := (As.map (cv G)).toArray, vm := .none }) ∧ xA G (gN w) = H.size := by
  obtain ⟨i1, i2, i3, i4, i5, i6, i7, i8, i9⟩ := h
  obtain ⟨s1, s2, s3, s4, s5, -⟩ := setAs_off (gN w) As (nw w kd As.length As.length) 0
  have sat := setAs_at G (gN w) kd (by omega) As (nw w kd As.length As.length) 0 hA
  have sre := setAs_ref (gN w) kd As (nw w kd As.length As.length) 0 hA
  have hn := hG.1 (gN w) i1.1
  have hsz : xA G (gN w) = H.size := by rw [i1.2]; exact hn
  have hlt : ∀ a, a < gN w + 1 → a ≠ gN w → a < gN w := fun a h e => by omega
  refine ⟨⟨⟨by rw [s1]; exact Nat.le_succ_of_le i1.1, ?_⟩, ?_, ?_, ?_, ?_, ?_, by rw [s2]; exact h2, by rw [s1]; exact h1, ?_⟩, hsz⟩
  · rw [Array.size_push, i1.2, s1, gN_nw]
    have := i1.1
    omega
  · intro a ha
    rw [s1] at ha
    rw [s3, s4, gK_nw, gL_nw]
    by_cases e : a = gN w
    · subst e
      rw [if_pos rfl, if_pos rfl, hsz, Array.getElem?_push_size]
      refine Or.inr ⟨_, rfl, rfl, rfl, fun z => absurd z (by omega), fun _ _ => ⟨by simp, fun k hk => ?_⟩⟩
      have h9 := sat k _ (List.getElem?_eq_getElem hk) (gJ (setAs (nw w kd As.length As.length) (gN w) 0 As) (gN w) k)
      rw [Nat.zero_add] at h9
      rw [h9]
      simp [hk]
    · rw [if_neg e, if_neg e]
      obtain ⟨e1, e2, e3⟩ := s5 a e
      have g1 : gI (nw w kd As.length As.length) a = gI w a := by funext j; rw [gI_nw, if_neg e]
      have g2 : gR (nw w kd As.length As.length) a = gR w a := by funext j; rw [gR_nw, if_neg e]
      have g3 : gJ (nw w kd As.length As.length) a = gJ w a := by funext j; rw [gJ_nw, if_neg e]
      rw [e1, e2, e3, g1, g2, g3]
      have h7 : xA G a ≠ H.size := fun z => e (hG.inj i1.1 (z.trans hsz.symm))
      rw [Array.getElem?_push, if_neg h7]
      exact i2 a (hlt a ha e)
  · intro a k b ha hb
    rw [s1] at ha
    rw [s1, s3, s3]
    by_cases e : a = gN w
    · subst e
      rcases sre k b hb with h9 | ⟨t, h9, h10⟩
      · rw [gR_nw, if_pos rfl] at h9
        cases h9
      · obtain ⟨q1, q2⟩ := hok _ h9 b rfl
        refine ⟨Nat.lt_succ_of_lt q1, ?_⟩
        rw [gK_nw, gK_nw, if_pos rfl, if_neg (Nat.ne_of_lt q1), h10]
        exact q2
    · rw [(s5 a e).2.1, gR_nw, if_neg e] at hb
      obtain ⟨q1, q2⟩ := i3 a k b (hlt a ha e) hb
      refine ⟨Nat.lt_succ_of_lt q1, ?_⟩
      rw [gK_nw, gK_nw, if_neg e, if_neg (Nat.ne_of_lt q1)]
      exact q2
  · intro a k ha hb
    rw [s1] at ha
    rw [s3, gK_nw] at hb
    by_cases e : a = gN w
    · rw [if_pos e] at hb
      exfalso
      unfold bt at hb
      split at hb <;> first | omega | cases hb
    · rw [if_neg e] at hb
      rw [(s5 a e).1, gI_nw, if_neg e]
      exact i4 a k (hlt a ha e) hb
  · intro q hq
    have hle : xB G ≤ H.size := by rw [i1.2]; exact Nat.le_add_right _ _
    rw [Array.getElem?_push, if_neg (by omega)]
    exact i5 q hq
  · rw [slotSum_push (by rw [i1.2]; exact Nat.le_add_right _ _), s2, gS_nw]
    exact Nat.add_le_add i6 (by simp)
  · intro a ha hb
    rw [s3, gK_nw, if_neg (by have := i1.1; omega)]
    exact i9 a ha (by have := i1.1; omega)
def capT : List FieldType → List AV → Bool
  | [], [] => true
  | .int :: ts, .inl _ :: l => capT ts l
  | .object _ :: ts, .inr (.inr _) :: l => capT ts l
  | .array _ :: ts, .inr (.inr _) :: l => capT ts l
  | _, _ => false
theorem capT_spec (G : Gx) : ∀ (ts : List FieldType) (As : List AV), capT ts As = true → ts.length = As.length ∧ (ts.zip (As.map (cv G))).map (fun (t, v) => narrow t v) = As.map (cv G) ∧ ∀ (i : Nat) (t : FieldType) (v : Value), ts[i]? = some t → (As.map (cv G))[i]? = some v → fits t v = true
  | [], [], _ => ⟨rfl, rfl, fun i t v h => by simp at h⟩
  | .int :: ts, .inl q :: l, h => by
    obtain ⟨a1, a2, a3⟩ := capT_spec G ts l h
    refine ⟨by simp [a1], ?_, fun i t v h1 h2 => ?_⟩
    · show narrow .int (.int q.2) :: (ts.zip (l.map (cv G))).map (fun (t, v) => narrow t v) = .int q.2 :: l.map (cv G)
      rw [a2]
      rfl
    · cases i with
      | zero =>
        simp only [List.map_cons, List.getElem?_cons_zero, Option.some.injEq] at h1 h2
        subst h1
        subst h2
        rfl
      | succ i =>
        simp only [List.map_cons, List.getElem?_cons_succ] at h1 h2
        exact a3 i t v h1 h2
  | .object n :: ts, .inr (.inr (t0, q)) :: l, h => by
    obtain ⟨a1, a2, a3⟩ := capT_spec G ts l h
    refine ⟨by simp [a1], ?_, fun i t v h1 h2 => ?_⟩
    · show narrow (.object n) (rf G q) :: (ts.zip (l.map (cv G))).map (fun (t, v) => narrow t v) = rf G q :: l.map (cv G)
      rw [a2]
      cases q <;> rfl
    · cases i with
      | zero =>
        simp only [List.map_cons, List.getElem?_cons_zero, Option.some.injEq] at h1 h2
        subst h1
        subst h2
        cases q <;> rfl
      | succ i =>
        simp only [List.map_cons, List.getElem?_cons_succ] at h1 h2
        exact a3 i t v h1 h2
  | .array n :: ts, .inr (.inr (t0, q)) :: l, h => by
    obtain ⟨a1, a2, a3⟩ := capT_spec G ts l h
    refine ⟨by simp [a1], ?_, fun i t v h1 h2 => ?_⟩
    · show narrow (.array n) (rf G q) :: (ts.zip (l.map (cv G))).map (fun (t, v) => narrow t v) = rf G q :: l.map (cv G)
      rw [a2]
      cases q <;> rfl
    · cases i with
      | zero =>
        simp only [List.map_cons, List.getElem?_cons_zero, Option.some.injEq] at h1 h2
        subst h1
        subst h2
        cases q <;> rfl
      | succ i =>
        simp only [List.map_cons, List.getElem?_cons_succ] at h1 h2
        exact a3 i t v h1 h2
section JI
variable {α : Type} {C : Cw} {rr : α → Wd → Outcome → Prop} {X : Option (Wd × α)} {f : Wd → Option (Wd × α)} {cc : ByteArray} {own : String} {d : Nat} {w : Wd} {pc : Nat} {lv : Lv} {st st0 : List AV}
theorem j_if {p : Prop} [Decidable p] (k : p → Jf C rr X w pc lv st) : Jf C rr (if p then X else none) w pc lv st := by
  intro res hX
  by_cases h : p
  · rw [if_pos h] at hX; exact k h res hX
  · rw [if_neg h] at hX; cases hX
theorem link_words {M : Mx} {T : State} {locs : List Loc} {cells slots : Nat} (X0 : Stand (mP M) (mL M) (mE M) (mR M) (mS M) (mM M) (mA M) (mB M) (mH M) (mC M) T locs cells slots) : (mE M).platform.lambdaLinkWords = 3072 := by
  rw [X0.admits.platform]
/-- a lambda that captures nothing -/
theorem j_indyC {kd t ix : Nat} (K : Cx C cc own (d + 1)) (hnd : (mS (cM C)).methodNamed? (sX kd) = some (mM (cM C))) (k1 : 20 ≤ kd) (k2 : kd < 40) (hpc : sPc kd = pc) (hc : 0 < lamC kd) (hd : decode cc pc = .ok (.invokedynamic ix, 5)) (hT : okT t kd = true) (hg : gK w (lamC kd) = kd) (h49 : 49 ≤ d) (hw : Nat.ble (stW st) 8 = true)
    (kk : Jf C rr X w (pc + 5) lv (aR t (some (lamC kd)) :: st)) : Jf C rr X w pc lv st :=
  fun res hX H locs cells slots ls h => by
    intro T hTh X0
    obtain ⟨m0, k0, cf0, i0, p0, l0, hm0, hk0, hcf0, hsh0, hfind0, hmade0, hcall0, -, hcst⟩ := K.en.2.1.2.2.2.2.2.2.1 kd k1 k2
    cases hnd.symm.trans hm0
    have hl0 := hcst hc
    subst hl0
    have hl7 : lamC kd < gN w := by
      have h6 : lamC kd ≤ 6 := by unfold lamC; split <;> omega
      have := h.inv.1.1
      omega
    have hty : OkV w (aR t (some (lamC kd))) := fun b e => by
      cases e
      exact ⟨hl7, by rw [hg]; exact hT⟩
    obtain ⟨t9, a1, b1⟩ := kk res hX H locs cells slots ls (h.p hty) T hTh X0
    have hlo := K.lo
    have hw' := Nat.le_of_ble_eq_true hw
    refine ⟨t9, X0.lambdaConstant K.ex (g := F0 (mM (cM C)) pc ls (st.map (cv (cG C)))) rfl (h.lo.1.trans K.ml.symm) (by rw [K.cb]; exact hd) hk0 (by rw [hpc] at hfind0; exact hfind0) ?_ a1, b1⟩
    rw [link_words X0]
    have e9 := stW_sum (cG C) st
    show 2 * 0 + ((st.map (cv (cG C))).map fun v => v.category).sum + 3072 ≤ _
    omega
/-- a lambda that captures -/
theorem j_indyM {kd t ix : Nat} (As : List AV) (K : Cx C cc own (d + 1)) (hnd : (mS (cM C)).methodNamed? (sX kd) = some (mM (cM C))) (k1 : 20 ≤ kd) (k2 : kd < 40) (hix : sIx kd = ix) (hpc : sPc kd = pc) (hc : lamC kd = 0) (hd : decode cc pc = .ok (.invokedynamic ix, 5)) (hA : lamA kd 0 As = true) (hcT : capT (sG kd).captured As = true) (t1 : 50 ≤ t) (hT : okT t kd = true) (h49 : 49 ≤ d) (hst : st0 = As.reverse ++ st) (hw : Nat.ble (stW st0) 8 = true)
    (kk : ∀ w1, Jf C rr (f w1) (setAs w1 (gN w) 0 As) (pc + 5) lv (aR t (some (gN w)) :: st)) : Jf C rr ((nwB w kd As.length As.length).bind f) w pc lv st0 := by
  refine j_nwB (fun hrm => ?_)
  intro res hX H locs cells slots ls h
  subst hst
  refine W.shrink (xB (cG C)) K.b0 (fun h7 h8 => ?_)
  obtain ⟨r1, r2⟩ := room_ok K h hrm h7 h8
  have hrm' := room_spec hrm
  intro T hTh X0
  obtain ⟨m0, k0, cf0, i0, p0, l0, hm0, hk0, hcf0, hsh0, hfind0, hmade0, hcall0, hmk, -⟩ := K.en.2.1.2.2.2.2.2.2.1 kd k1 k2
  cases hnd.symm.trans hm0
  have hl0 := hmk hc
  subst hl0
  rw [hix] at hsh0
  obtain ⟨bsm, nt, nm, ds, sig, s1, s2, s3, s4⟩ := shape_site hsh0
  obtain ⟨kc, -, -, -, -, -, -, f1, -, -, -, -, -, -, -, -, -, -, -, -, -, -, -, -, -, f19⟩ := lam_at k1 k2 K.ts (K.en.2.1.2.2.2.2.2.2.1 kd k1 k2) (mS (cM C)) (State.WarmedH.refl _)
  obtain ⟨dk, kB, ok, tk, file, cf, object, iface, toy, lay, methods, target, found, -, hkB, -, -, -, -, -, -, -, -, -, -, -, hrec, -⟩ := Lambda.isMade_spec hmade0
  cases f1.symm.trans hkB
  obtain ⟨c1, c2, c3⟩ := capT_spec (cG C) _ _ hcT
  have hok : ∀ u ∈ As, OkV w u := fun u hu => h.ok _ (List.mem_append_left _ (List.mem_reverse.mpr hu))
  have hst' : ∀ u ∈ st, OkV w u := fun u hu => h.ok _ (List.mem_append_right _ hu)
  have hlo := K.lo
  have hw' := Nat.le_of_ble_eq_true hw
  have hvals : (kc.instanceTypes.toList.zip (As.map (cv (cG C)))).map (fun (t, v) => narrow t v) = As.map (cv (cG C)) := by rw [f19]; exact c2
  have Z := X0.lambdaMakes K.ex (g := F0 (mM (cM C)) pc ls ((As.reverse ++ st).map (cv (cG C)))) rfl (h.lo.1.trans K.ml.symm) (by rw [K.cb]; exact hd) hk0 (by rw [hpc] at hfind0; exact hfind0) hcf0 s1 s2 s3 (vals := As.map (cv (cG C))) (rest := st.map (cv (cG C))) (by rw [s4, List.length_map]; exact c1.symm) (by show List.map _ _ = _; rw [List.map_append, List.map_reverse]) f1
    (by
      rw [link_words X0]
      have e9 := stW_sum (cG C) (As.reverse ++ st)
      show 2 * 0 + (((As.reverse ++ st).map (cv (cG C))).map fun v => v.category).sum + 3072 ≤ _
      omega) r1 (by rw [hvals, List.length_map]; exact r2) (fun i v hv => by
      rw [hvals] at hv
      have hi : i < As.length := by
        have h9 := (Array.getElem?_eq_some_iff.mp hv).1
        simpa using h9
      have hti : i < (sG kd).captured.length := by rw [c1]; exact hi
      have h5 : kc.instanceTypes[i]? = some ((sG kd).captured[i]) := by
        rw [← Array.getElem?_toList, f19, List.getElem?_eq_getElem hti]
      unfold State.fitsSlot State.slotType?
      rw [f1]
      simp only [Option.bind_eq_bind, Option.bind_some, hrec.2.1, h5]
      exact c3 i _ v (List.getElem?_eq_getElem hti) (by simpa using hv))
  obtain ⟨X1, go⟩ := Z
  rw [hvals] at X1 go
  obtain ⟨hinv, hix9⟩ := h.inv.lam K.gw k1 k2 hA hok hrm'.1 hrm'.2
  obtain ⟨q1, q2, q3, q4, q5, -⟩ := setAs_off (gN w) As (nw w kd As.length As.length) 0
  have hnx : Nx w (setAs (nw w kd As.length As.length) (gN w) 0 As) := ⟨by rw [q1]; exact Nat.le_succ _, fun a ha => by rw [q3, q4, gK_nw, gL_nw, if_neg (Nat.ne_of_lt ha), if_neg (Nat.ne_of_lt ha)]; exact ⟨rfl, rfl⟩⟩
  have hfx : Fx w → Fx (setAs (nw w kd As.length As.length) (gN w) 0 As) := fun hF => by
    obtain ⟨⟨g1, g2, g3, g4, g5, g6, g7⟩, g8⟩ := hF
    refine ⟨⟨(hnx.2 8 (by omega)).1.trans g1, (hnx.2 30 (by omega)).1.trans g2, (hnx.2 66 g5).1.trans g3, (hnx.2 66 g5).2.trans g4, Nat.lt_of_lt_of_le g5 hnx.1, (hnx.2 0 (by omega)).1.trans g6, (hnx.2 0 (by omega)).2.trans g7⟩, fun q hq => ?_⟩
    obtain ⟨a1, a2, a3, a4⟩ := g8 q hq
    have hl : q.1 < gN w := by
      have h9 : ∀ q ∈ fxL, q.1 ≤ 66 := by decide +kernel
      exact Nat.lt_of_le_of_lt (h9 q hq) g5
    refine ⟨?_, (hnx.2 _ a4).1.trans a2, (hnx.2 _ a4).2.trans a3, Nat.lt_of_lt_of_le a4 hnx.1⟩
    rw [(q5 q.1 (Nat.ne_of_lt hl)).2.1, gR_nw, if_neg (Nat.ne_of_lt hl)]
    exact a1
  have hty : Ty (setAs (nw w kd As.length As.length) (gN w) 0 As) t (some (gN w)) := fun b e => by
    cases e
    refine ⟨by rw [q1]; exact Nat.lt_succ_self _, ?_⟩
    rw [q3, gK_nw, if_pos rfl]
    exact hT
  obtain ⟨t9, a1, b1⟩ := kk _ res hX _ locs _ _ ls ⟨hinv, fun e => hfx (h.fx e), h.nx.tr hnx, h.lc, h.lo.nx hnx, okc hty (fun u hu => (hst' u hu).nx hnx)⟩ _ (by show T.heap.push _ = _; rw [hTh]) X1
  refine ⟨t9, go _ ?_, b1⟩
  have e5 : cv (cG C) (aR t (some (gN w))) = .ref T.heap.size := by
    show va_rf (some (xA (cG C) (gN w))) = _
    rw [hix9, hTh]
    rfl
  rw [List.map_cons, e5] at a1
  exact a1
/-- a lambda's object is stored into an array of its interface -/
theorem j_aasI {t t' a n : Nat} {b : Bool} {i : Int32} {u v : Option Nat} (K : Cx C cc own d) (hd : decode cc pc = .ok (.aastore, 1)) (t1 : 50 ≤ t') (t2 : t' < 53) (ht : tyA t = some (.object (iT t').cls)) (hr : ∀ k, rt t k = t') (h10 : (Nat.blt 9 t && Nat.blt t 18) = true) (ha : v = some a)
    (hn : ∀ H locs ls, IJ C w H locs lv ls (aR t' u :: aB b i :: aR t v :: st) → gL w a = n) (hi : ib i n = true)
    (kk : Jf C rr X (sR w a i.toNatClampNeg u) (pc + 1) lv st) : Jf C rr X w pc lv (aR t' u :: aB b i :: aR t v :: st) :=
  j_aas' K hd ht hr (by omega) h10 ha hn (fun H locs ls x h e => by
    subst e
    obtain ⟨hbl, hbt⟩ := h.hd x rfl
    obtain ⟨k1, k2⟩ := lam_kd t1 t2 hbt
    obtain ⟨n1, -, -⟩ := lam_face t1 t2 hbt
    rcases h.inv.2.1 x hbl with hC | ⟨cB, c1, c2, c3, -⟩
    · omega
    obtain ⟨m0, k0, cf0, i0, p0, l0, hm0, hk0, hcf0, hsh0, hfind0, hmade0, hcall0, -, -⟩ := K.en.2.1.2.2.2.2.2.2.1 (gK w x) k1 k2
    obtain ⟨dk, kB, ok, tk, file, cf, object, iface, toy, lay, methods, target, found, -, hkB, -⟩ := Lambda.isMade_spec hmade0
    obtain ⟨i2, hi2, hasg, -⟩ := State.lambdaCallable_spec hcall0
    refine ⟨cB, c1, by rw [c2]; rfl, ⟨kB, by rw [c3]; exact hkB⟩, fun comp hcomp => ?_⟩
    rw [n1] at hi2
    cases hi2.symm.trans hcomp
    rw [c3]
    exact hasg) hi kk
end JI
section MiS
variable {β : Type} {G : Gx} {φ : Bool} {l : Launch} {d : Nat} {push : β → List AV} {b : Nat} {As : List AV} {w : Wd} {X Y : Option (Wd × β)}
theorem Mi.none : Mi G φ l d push b As w (none : Option (Wd × β)) := fun _ h => by cases h
theorem Mi.ite {p : Prop} [Decidable p] (k1 : p → Mi G φ l d push b As w X) (k2 : ¬ p → Mi G φ l d push b As w Y) : Mi G φ l d push b As w (if p then X else Y) := by
  by_cases h : p
  · rw [if_pos h]; exact k1 h
  · rw [if_neg h]; exact k2 h
end MiS
