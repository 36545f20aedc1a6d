set_option maxRecDepth 100000
theorem lam_kd {t kd : Nat} (h1 : 50 ≤ t) (h2 : t < 53) (h : okT t kd = true) : 20 ≤ kd ∧ kd < 40 := by
  unfold okT at h
  rw [if_neg (by omega)] at h
  split at h
  · simp only [Bool.or_eq_true, Bool.and_eq_true, beq_iff_eq, Nat.ble_eq] at h
    omega
  · split at h
    · simp only [Bool.and_eq_true, Nat.ble_eq] at h
      omega
    · split at h
      · simp only [Bool.and_eq_true, Nat.ble_eq] at h
        omega
      · cases h
theorem lam_face {t kd : Nat} (h1 : 50 ≤ t) (h2 : t < 53) (h : okT t kd = true) : (sG kd).iface = (iT t).cls ∧ (sG kd).name = (iT t).name ∧ (sG kd).sam.toString = (iT t).desc := by
  have h3 := lam_kd h1 h2 h
  have hh : ∀ t ∈ [50, 51, 52], ∀ k ∈ lams, okT t k = true → (sG k).iface = (iT t).cls ∧ (sG k).name = (iT t).name ∧ (sG k).sam.toString = (iT t).desc := by decide +kernel
  have hm : kd ∈ lams := by
    have : ∀ k, k < 40 → 20 ≤ k → k ∈ lams := by decide +kernel
    exact this kd h3.2 h3.1
  have ht : t = 50 ∨ t = 51 ∨ t = 52 := by omega
  rcases ht with rfl | rfl | rfl
  · exact hh 50 (by simp) kd hm h
  · exact hh 51 (by simp) kd hm h
  · exact hh 52 (by simp) kd hm h
section JM
variable {α β : Type} {C : Cw} {rr : α → Wd → Outcome → Prop} {cc : ByteArray} {own : String} {d : Nat} {w : Wd} {pc : Nat} {lv : Lv} {st : List AV} {push : β → List AV} {Y : Option (Wd × β)} {Z : Wd × β → Option (Wd × α)}
theorem j_callM {t b ix cnt : Nat} {v pn : Option Nat} (K : Cx C cc own (d + 1)) (hM : Mi (cG C) (cF C) (mL (cM C)) d push b [aR 4 pn] w Y) (hd : decode cc pc = .ok (.invokeinterface ix cnt, 5)) (t1 : 50 ≤ t) (t2 : t < 53) (q1 : Cond.methodLink own ix (iT t) ∈ lw_all) (hb : v = some b) (hw : Nat.ble (stW st) 8 = true)
    (kk : ∀ r : Wd × β, Y = some r → Jf C rr (Z r) r.1 (pc + 5) lv (push r.2 ++ st)) : Jf C rr (Y.bind Z) w pc lv (aR 4 pn :: aR t v :: st) :=
  fun res hX H locs cells slots ls h => by
    obtain ⟨r, hY, hZ⟩ := bindS hX
    subst hb
    have hst' : ∀ u ∈ st, OkV w u := h.d2.ok
    obtain ⟨hbl, hbt⟩ := h.d1.hd b rfl
    obtain ⟨k1, k2⟩ := lam_kd t1 t2 hbt
    obtain ⟨n1, n2, n3⟩ := lam_face t1 t2 hbt
    refine W.shrink (xB (cG C)) K.b0 (fun h7 h8 => ?_)
    have hrm := h.room K h7 h8 (a := LIMC + 8 - gN w) (b := LIMS - SlotSum (xB (cG C)) H) (by have := h.cl; omega) (by have := h.sl; omega)
    have hfr := K.fr
    have hlo := K.lo
    have hC := h.inv.2.1 b hbl
    rcases hC with hC | ⟨cB, c1, c2, c3, -⟩
    · omega
    have hEL := K.en.2.1.2.2.2.2.2.2
    obtain ⟨m0, k0, cf0, i0, p0, l0, hm0, hk0, hcf0, hsh0, hfind0, hmade0, hcall0, -, -⟩ := hEL.1 (gK w b) k1 k2
    obtain ⟨dk, kB, ok, tk, file, cf, object, iface, toy, lay, methods, target, found, -, hkB, -, -, -, hi, -, -, -, -, -, -, hfound, -, -, -, -, -, -, -, -, -, -, hsel⟩ := Lambda.isMade_spec hmade0
    obtain ⟨i2, hi2, hasg, hway⟩ := State.lambdaCallable_spec hcall0
    cases hi.symm.trans hi2
    obtain ⟨-, -, -, methk, ck, -, -, -, -, -, -, f5, -, -, -, -, f10, -⟩ := lam_at k1 k2 K.ts (hEL.1 (gK w b) k1 k2) (mS (cM C)) (State.WarmedH.refl _)
    obtain ⟨e1, e2⟩ := hEL.2 t t1 t2
    obtain ⟨r0, rm, hn, hrm0, hstR, hsigR⟩ := Cond.declares_spec e1
    obtain ⟨cL, kL, r1, hcL, hkL, hiL, hfoundL, hn1⟩ := Cond.interfaceMethod_spec e2
    cases hn.symm.trans hn1
    have hr0cls : r0.cls = cL := Option.some.inj ((findClass_of_methodNamed hn).symm.trans hcL)
    obtain ⟨hnameR, hdescR⟩ := name_of_methodNamed hn hrm0
    rw [n1] at hi
    cases hi.symm.trans hcL
    rw [n2, n3] at hfound hway
    have hfr0 : found = r0 := by
      simp only [State.methodFound?, hcL, Option.bind_eq_bind, Option.bind_some, hkL, hiL, hfound] at hfoundL
      exact Option.some.inj hfoundL
    subst hfr0
    intro T hT X0
    have hselP : selectMethod (mE (cM C)).platform (mS (cM C)).vm cB.cls found = .method ⟨cB.cls, 1⟩ := by rw [Launch.admits_selectMethod X0.admits, c3]; exact hsel
    have hone : rm.sig.parameters.length = 1 := by
      have hh : ∀ t ∈ [50, 51, 52], (parseMethodDescriptor (iT t).desc).map (fun d => d.parameters.length) = some 1 := by decide +kernel
      have h9 := hh t (by simp; omega)
      rw [hsigR] at h9
      exact Option.some.inj h9
    obtain ⟨vm₁, X₁, hstep₁⟩ := X0.invokeinterface K.ex K.ow (K.ts _ q1) hn hrm0 hstR (by rw [hr0cls]; exact hkL) hiL (iT_ok t) (a := xA (cG C) b) (cell := cB) (kcell := kB) (by rw [hT]; exact c1)
      (fun z e => by rw [c2] at e; cases e) (by rw [c3]; exact hkB) (by rw [c3, hr0cls]; exact hasg) hselP (by rw [c3]; exact f5) (by rw [c3, hnameR, hdescR]; exact hway) (by rw [f10]; decide) (by simp [Method.isAbstract, f10, hasFlag, Acc.abstract]) (g := F0 (mM (cM C)) pc ls ((aR 4 pn :: aR t (some b) :: st).map (cv (cG C)))) rfl (argsL := [cv (cG C) (aR 4 pn)]) (rest := st.map (cv (cG C))) (by rw [hone]; rfl) rfl (by rw [K.cb]; exact hd)
    obtain ⟨v, T', L, X', hL, hv1, hv2, i1, j2, i3, go⟩ := hM r hY (cM C) (T.setVm vm₁) locs _ _ (F0 (mM (cM C)) pc ls (st.map (cv (cG C)))) (.invokeinterface ix cnt) 5 rfl K.ex K.ts K.en hfr (by omega) hrm.1 (by show _ + (LIMS - SlotSum _ T.heap) ≤ _; rw [hT]; exact hrm.2) (by show Inv _ _ T.heap; rw [hT]; exact h.inv) h.fx (ok1 h.hd) hbl X₁ rfl (h.lo.1.trans K.ml.symm) (by rw [K.cb]; exact hd) (lv_room (by rw [stW_sum]; exact Nat.le_of_ble_eq_true hw))
    obtain ⟨t9, a1, b1⟩ := kk r hY res hZ T'.heap (locs ++ L) _ _ ls ⟨i1, j2, h.nx.tr i3, (fun q hq => by
      rcases List.mem_append.mp hq with z | z
      · exact h.lc q z
      · exact hL q z), h.lo.nx i3, (fun u hu => by
      rcases List.mem_append.mp hu with z | z
      · exact hv2 u z
      · exact (hst' u z).nx i3)⟩ T' rfl X'
    refine ⟨t9, hstep₁ _ (fun acts => ?_), b1⟩
    rw [List.map_append, ← hv1] at a1
    have g1 := go acts
    rw [← c3] at g1
    exact g1.trans a1
end JM
