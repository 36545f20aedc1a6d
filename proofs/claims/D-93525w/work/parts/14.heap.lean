set_option maxRecDepth 100000
/-! ===== rows that read and write the world ===== -/
section JHeap
variable {α : Type} {C : Cw} {rr : α → Wd → Outcome → Prop} {X A B : Option (Wd × α)} {cc : ByteArray} {own : String} {d : Nat} {w : Wd} {pc : Nat} {lv : Lv} {st : List AV}
theorem okT_eq {t k : Nat} (ht : t < 50) (h : okT t k = true) : k = t := by
  unfold okT at h
  rw [if_pos ht] at h
  simpa using h
/-- the cell of a reference of a kind below 50 -/
theorem IJ.cell {H : Heap} {locs : List Loc} {ls : Array Slot} (h : IJ C w H locs lv ls st) {t a : Nat} (ht : t < 50) (h0 : t ≠ 0) (hv : Ty w t (some a)) : a < gN w ∧ gK w a = t ∧ ∃ c : Cell, H[xA (cG C) a]? = some c ∧ c.vm = .none ∧ c.cls = xK (cG C) t ∧
    (t < 10 → ∀ k, nF t k = true → c.slots[xF (cG C) t k]? = some (vS (cG C) t k (gI w a k) (gR w a k) (gJ w a k))) ∧
    (10 ≤ t → t < 40 → c.slots.size = gL w a ∧ ∀ k, k < gL w a → c.slots[k]? = some (vS (cG C) t k (gI w a k) (gR w a k) (gJ w a k))) := by
  obtain ⟨h1, h2⟩ := hv a rfl
  have h3 := okT_eq ht h2
  have h4 := h.inv.2.1 a h1
  rw [h3] at h4
  rcases h4 with h4 | h4
  · exact absurd h4 h0
  · exact ⟨h1, h3, h4⟩
/-- a field is read: v is what it holds -/
theorem j_getV {t k ix : Nat} {a : Nat} {v : Option Nat} {u : AV} {Cn : String} {T : u_T} {N : Nat} (K : Cx C cc own d) (hd : decode cc pc = .ok (.getfield ix, 3)) (hc : clz t = some (Cn, T, N)) (hk : Nat.blt k N = true) (hF : nF t k = true) (hq : Cond.fieldLink own ix (T k).1 (T k).2.1 (T k).2.2.1 ∈ lw_all) (ht : (Nat.blt 0 t && Nat.blt t 10) = true) (ha : v = some a)
    (hu : ∀ x r j, gI w a k = x → gR w a k = r → gJ w a k = j → cv (cG C) u = vS (cG C) t k x r j) (hok : ∀ H locs ls, IJ C w H locs lv ls (aR t v :: st) → OkV w u)
    (kk : Jf C rr X w (pc + 3) lv (u :: st)) : Jf C rr X w pc lv (aR t v :: st) :=
  fun res hX H locs cells slots ls h => by
    subst ha
    have t9 := blt2 ht
    obtain ⟨h1, h2, c, q1, q2, q3, q4, -⟩ := h.cell (by omega) (by omega) h.hd
    obtain ⟨hin, hty, hnm⟩ := clz_ok hc
    obtain ⟨hS, hfc, kC, hkC, hkind⟩ := K.en.1.1 t _ _ _ hc
    obtain ⟨cf, kf, fi, f, hi, hsl⟩ := hS k (Nat.le_of_ble_eq_true hk)
    refine W.getf K.ex K.cb K.ow (K.ts _ hq) hi (u_facts hfc hkC (u_lays K.ts hin (Nat.le_of_ble_eq_true hk)) hi).1 q1 (by rw [q2]; exact fun z => by cases z) (v := cv (cG C) u) ?_ rfl rfl hd (kk res hX H locs cells slots ls (h.d1.p (hok H locs ls h)))
    rw [hsl, q4 t9.2 k hF, hu _ _ _ rfl rfl rfl]
/-- an int field -/
theorem j_getI {t k ix a : Nat} {v : Option Nat} {Cn : String} {T : u_T} {N : Nat} (K : Cx C cc own d) (hd : decode cc pc = .ok (.getfield ix, 3)) (hc : clz t = some (Cn, T, N)) (hk : Nat.blt k N = true) (hF : nF t k = true) (hq : Cond.fieldLink own ix (T k).1 (T k).2.1 (T k).2.2.1 ∈ lw_all) (ht : (Nat.blt 0 t && Nat.blt t 10) = true) (hr : rt t k = 99) (ha : v = some a)
    (kk : Jf C rr X w (pc + 3) lv (aI (gI w a k) :: st)) : Jf C rr X w pc lv (aR t v :: st) :=
  j_getV K hd hc hk hF hq ht ha (fun x r j e1 e2 e3 => by rw [← e1]; unfold vS; rw [if_pos hr, if_neg (by have := blt2 ht; omega)]; rfl) (fun _ _ _ _ => okI w _) kk
/-- a boolean field -/
theorem j_getZ {t k ix a : Nat} {v : Option Nat} {Cn : String} {T : u_T} {N : Nat} (K : Cx C cc own d) (hd : decode cc pc = .ok (.getfield ix, 3)) (hc : clz t = some (Cn, T, N)) (hk : Nat.blt k N = true) (hF : nF t k = true) (hq : Cond.fieldLink own ix (T k).1 (T k).2.1 (T k).2.2.1 ∈ lw_all) (ht : (Nat.blt 0 t && Nat.blt t 10) = true) (hr : rt t k = 99) (hz : bt t k = true) (ha : v = some a)
    (kk : Jf C rr X w (pc + 3) lv (aZ (gI w a k) :: st)) : Jf C rr X w pc lv (aR t v :: st) :=
  j_getV K hd hc hk hF hq ht ha (fun x r j e1 e2 e3 => by rw [← e1]; unfold vS; rw [if_pos hr, if_neg (by have := blt2 ht; omega)]; rfl) (fun H locs ls h => by
    subst ha
    have t9 := blt2 ht
    obtain ⟨h1, h2, -⟩ := h.cell (by omega) (by omega) h.hd
    exact okZ w (h.inv.2.2.2.1 a k h1 (by rw [h2]; exact hz))) kk
/-- a reference field -/
theorem j_getR {t t' k ix a : Nat} {v : Option Nat} {Cn : String} {T : u_T} {N : Nat} (K : Cx C cc own d) (hd : decode cc pc = .ok (.getfield ix, 3)) (hc : clz t = some (Cn, T, N)) (hk : Nat.blt k N = true) (hF : nF t k = true) (hq : Cond.fieldLink own ix (T k).1 (T k).2.1 (T k).2.2.1 ∈ lw_all) (ht : (Nat.blt 0 t && Nat.blt t 10) = true) (hr : rt t k = t') (h9 : t' ≠ 99) (ha : v = some a)
    (kk : Jf C rr X w (pc + 3) lv (aR t' (gR w a k) :: st)) : Jf C rr X w pc lv (aR t v :: st) :=
  j_getV K hd hc hk hF hq ht ha (fun x r j e1 e2 e3 => by rw [← e2]; unfold vS; rw [if_neg (by rw [hr]; exact h9)]; rfl) (fun H locs ls h => by
    subst ha
    have t9 := blt2 ht
    obtain ⟨h1, h2, -⟩ := h.cell (by omega) (by omega) h.hd
    intro b e
    have h3 := h.inv.2.2.1 a k b h1 e
    rw [h2, hr] at h3
    exact h3) kk
/-- an array of the two great objects: it lies where it lay -/
theorem j_getA {t k ix a n : Nat} {o t' : Nat} {Cn : String} {T : u_T} {N : Nat} (i : Nat) (K : Cx C cc own d) (hd : decode cc pc = .ok (.getfield ix, 3)) (hc : clz t = some (Cn, T, N)) (hk : Nat.blt k N = true) (hF : nF t k = true) (hq : Cond.fieldLink own ix (T k).1 (T k).2.1 (T k).2.2.1 ∈ lw_all) (ht : (Nat.blt 0 t && Nat.blt t 10) = true) (hr : rt t k = t') (h9 : t' ≠ 99) (hf : cF C = true) (hx : fxL[i]? = some (o, k, a, t', n)) {v : Option Nat} (ha : v = some o)
    (kk : Jf C rr X w (pc + 3) lv (aR t' (some a) :: st)) : Jf C rr X w pc lv (aR t v :: st) := by
  subst ha
  refine fun res hX H locs cells slots ls h => ?_
  have h5 := (h.fx hf).2 _ (List.mem_of_getElem? hx)
  have h6 : gR w o k = some a := h5.1
  refine j_getR (X := X) (rr := rr) K hd hc hk hF hq ht hr h9 rfl ?_ res hX H locs cells slots ls h
  rw [h6]
  exact kk
/-- a field is read: v is what it holds -/
theorem j_getVN {t k ix : Nat} {a : Nat} {v : Option Nat} {u : AV} {Cn : String} {T : u_T} {N : Nat} (K : Cx C cc own d) (hd : decode cc pc = .ok (.getfield ix, 3)) (hc : clz t = some (Cn, T, N)) (hk : Nat.blt k N = true) (hF : nF t k = true) {host : String} (hq : Cond.fieldLinkNest own ix (T k).1 (T k).2.1 (T k).2.2.1 host ∈ lw_tbl) (ht : (Nat.blt 0 t && Nat.blt t 10) = true) (ha : v = some a)
    (hu : ∀ x r j, gI w a k = x → gR w a k = r → gJ w a k = j → cv (cG C) u = vS (cG C) t k x r j) (hok : ∀ H locs ls, IJ C w H locs lv ls (aR t v :: st) → OkV w u)
    (kk : Jf C rr X w (pc + 3) lv (u :: st)) : Jf C rr X w pc lv (aR t v :: st) :=
  fun res hX H locs cells slots ls h => by
    subst ha
    have t9 := blt2 ht
    obtain ⟨h1, h2, c, q1, q2, q3, q4, -⟩ := h.cell (by omega) (by omega) h.hd
    obtain ⟨hin, hty, hnm⟩ := clz_ok hc
    obtain ⟨hS, hfc, kC, hkC, hkind⟩ := K.en.1.1 t _ _ _ hc
    obtain ⟨cf, kf, fi, f, hi, hsl⟩ := hS k (Nat.le_of_ble_eq_true hk)
    refine va_Wgetf K.ex K.cb K.ow (va_Nw.use rfl (K.en.2.1.1 _ hq rfl)) hi (u_facts hfc hkC (u_lays K.ts hin (Nat.le_of_ble_eq_true hk)) hi).1 q1 (by rw [q2]; exact fun z => by cases z) (v := cv (cG C) u) ?_ rfl rfl hd (kk res hX H locs cells slots ls (h.d1.p (hok H locs ls h)))
    rw [hsl, q4 t9.2 k hF, hu _ _ _ rfl rfl rfl]
/-- an int field -/
theorem j_getIN {t k ix a : Nat} {v : Option Nat} {Cn : String} {T : u_T} {N : Nat} (K : Cx C cc own d) (hd : decode cc pc = .ok (.getfield ix, 3)) (hc : clz t = some (Cn, T, N)) (hk : Nat.blt k N = true) (hF : nF t k = true) {host : String} (hq : Cond.fieldLinkNest own ix (T k).1 (T k).2.1 (T k).2.2.1 host ∈ lw_tbl) (ht : (Nat.blt 0 t && Nat.blt t 10) = true) (hr : rt t k = 99) (ha : v = some a)
    (kk : Jf C rr X w (pc + 3) lv (aI (gI w a k) :: st)) : Jf C rr X w pc lv (aR t v :: st) :=
  j_getVN K hd hc hk hF hq ht ha (fun x r j e1 e2 e3 => by rw [← e1]; unfold vS; rw [if_pos hr, if_neg (by have := blt2 ht; omega)]; rfl) (fun _ _ _ _ => okI w _) kk
/-- a boolean field -/
theorem j_getZN {t k ix a : Nat} {v : Option Nat} {Cn : String} {T : u_T} {N : Nat} (K : Cx C cc own d) (hd : decode cc pc = .ok (.getfield ix, 3)) (hc : clz t = some (Cn, T, N)) (hk : Nat.blt k N = true) (hF : nF t k = true) {host : String} (hq : Cond.fieldLinkNest own ix (T k).1 (T k).2.1 (T k).2.2.1 host ∈ lw_tbl) (ht : (Nat.blt 0 t && Nat.blt t 10) = true) (hr : rt t k = 99) (hz : bt t k = true) (ha : v = some a)
    (kk : Jf C rr X w (pc + 3) lv (aZ (gI w a k) :: st)) : Jf C rr X w pc lv (aR t v :: st) :=
  j_getVN K hd hc hk hF hq ht ha (fun x r j e1 e2 e3 => by rw [← e1]; unfold vS; rw [if_pos hr, if_neg (by have := blt2 ht; omega)]; rfl) (fun H locs ls h => by
    subst ha
    have t9 := blt2 ht
    obtain ⟨h1, h2, -⟩ := h.cell (by omega) (by omega) h.hd
    exact okZ w (h.inv.2.2.2.1 a k h1 (by rw [h2]; exact hz))) kk
/-- a reference field -/
theorem j_getRN {t t' k ix a : Nat} {v : Option Nat} {Cn : String} {T : u_T} {N : Nat} (K : Cx C cc own d) (hd : decode cc pc = .ok (.getfield ix, 3)) (hc : clz t = some (Cn, T, N)) (hk : Nat.blt k N = true) (hF : nF t k = true) {host : String} (hq : Cond.fieldLinkNest own ix (T k).1 (T k).2.1 (T k).2.2.1 host ∈ lw_tbl) (ht : (Nat.blt 0 t && Nat.blt t 10) = true) (hr : rt t k = t') (h9 : t' ≠ 99) (ha : v = some a)
    (kk : Jf C rr X w (pc + 3) lv (aR t' (gR w a k) :: st)) : Jf C rr X w pc lv (aR t v :: st) :=
  j_getVN K hd hc hk hF hq ht ha (fun x r j e1 e2 e3 => by rw [← e2]; unfold vS; rw [if_neg (by rw [hr]; exact h9)]; rfl) (fun H locs ls h => by
    subst ha
    have t9 := blt2 ht
    obtain ⟨h1, h2, -⟩ := h.cell (by omega) (by omega) h.hd
    intro b e
    have h3 := h.inv.2.2.1 a k b h1 e
    rw [h2, hr] at h3
    exact h3) kk
/-- an array of the two great objects: it lies where it lay -/
theorem j_getAN {t k ix a n : Nat} {o t' : Nat} {Cn : String} {T : u_T} {N : Nat} (i : Nat) (K : Cx C cc own d) (hd : decode cc pc = .ok (.getfield ix, 3)) (hc : clz t = some (Cn, T, N)) (hk : Nat.blt k N = true) (hF : nF t k = true) {host : String} (hq : Cond.fieldLinkNest own ix (T k).1 (T k).2.1 (T k).2.2.1 host ∈ lw_tbl) (ht : (Nat.blt 0 t && Nat.blt t 10) = true) (hr : rt t k = t') (h9 : t' ≠ 99) (hf : cF C = true) (hx : fxL[i]? = some (o, k, a, t', n)) {v : Option Nat} (ha : v = some o)
    (kk : Jf C rr X w (pc + 3) lv (aR t' (some a) :: st)) : Jf C rr X w pc lv (aR t v :: st) := by
  subst ha
  refine fun res hX H locs cells slots ls h => ?_
  have h5 := (h.fx hf).2 _ (List.mem_of_getElem? hx)
  have h6 : gR w o k = some a := h5.1
  refine j_getRN (X := X) (rr := rr) K hd hc hk hF hq ht hr h9 rfl ?_ res hX H locs cells slots ls h
  rw [h6]
  exact kk
theorem j_is {v : Option Nat} (a : Nat) (k : v = some a → Jf C rr X w pc lv st) : Jf C rr (if v = some a then X else none) w pc lv st := by
  intro res hX
  by_cases h : v = some a
  · rw [if_pos h] at hX; exact k h res hX
  · rw [if_neg h] at hX; cases hX
theorem j_gets {ix : Nat} (K : Cx C cc own d) (hd : decode cc pc = .ok (.getstatic ix, 3)) (hq : Cond.fieldLink own ix "IntervalTree" "TABLE" "[I" ∈ lw_all) (hf : cF C = true) (kk : Jf C rr X w (pc + 3) lv (aR 18 (some 0) :: st)) : Jf C rr X w pc lv st :=
  fun res hX H locs cells slots ls h => by
    obtain ⟨cf, kf, fi, f, a, cell, z1, z2, z3, z4, z5, z6, z7, z8⟩ := K.en.2.1.2.2.2.1.2.2
    have ha : a < xB (cG C) := Nat.not_le.mp z8
    refine W.gets K.ex K.cb K.ow (K.ts _ hq) z1 z2 z3 z4 (by rw [h.inv.2.2.2.2.1 a ha]; exact z5) (by intro e; rw [e] at z6; cases z6) z7 rfl hd (kk res hX H locs cells slots ls (h.p (fun b e => by
      cases e
      exact ⟨by have := h.inv.1.1; omega, by rw [(h.fx hf).1.2.2.2.2.2.1]; rfl⟩)))
/-- a place of a cell is written -/
theorem IJ.put {H H1 : Heap} {locs : List Loc} {ls : Array Slot} {a i j : Nat} {v : Value} {c : Cell} {w' : Wd} {st' : List AV} (K : Cx C cc own d) (h : IJ C w H locs lv ls st') (ha : 8 ≤ a) (hl : a < gN w)
    (hN : gN w' = gN w) (hS : gS w' = gS w) (hK : ∀ b, gK w' b = gK w b) (hL : ∀ b, gL w' b = gL w b)
    (hI : ∀ b, b ≠ a → gI w' b = gI w b) (hR : ∀ b, b ≠ a → gR w' b = gR w b) (hJ : ∀ b, b ≠ a → gJ w' b = gJ w b) (hF : cF C = true → Fx w → Fx w')
    (hc : H[xA (cG C) a]? = some c) (h1 : H1[xA (cG C) a]? = some (c.setSlot i v)) (hz : H1.size = H.size) (ho : ∀ q, q ≠ xA (cG C) a → H1[q]? = H[q]?)
    (hnew : COk (cG C) (gK w a) (gL w a) (gI w' a) (gR w' a) (gJ w' a) (some (c.setSlot i v)))
    (hT : ∀ k b, gR w' a k = some b → b < gN w ∧ okT (rt (gK w a) k) (gK w b) = true)
    (hB : ∀ k, bt (gK w a) k = true → B01 (gI w' a k)) : IJ C w' H1 (locs ++ [⟨xA (cG C) a, j⟩]) lv ls st' := by
  have nx : Nx w w' := ⟨by rw [hN]; exact Nat.le_refl _, fun b _ => ⟨hK b, hL b⟩⟩
  refine ⟨h.inv.put K.gw ha hl hN hS hK hL hI hR hJ hc h1 hz ho hnew hT hB, fun e => hF e (h.fx e), h.nx.tr nx, ?_, h.lo.nx nx, fun u hu => (h.ok u hu).nx nx⟩
  intro q hq
  rcases List.mem_append.mp hq with e | e
  · exact h.lc q e
  · rw [List.mem_singleton.mp e]
    have := K.gw.1 a ha
    show xB (cG C) ≤ xA (cG C) a
    omega
theorem slot_set {c : Cell} {i : Nat} {v : Value} (h : i < c.slots.size) (k : Nat) : (c.setSlot i v).slots[k]? = if i = k then some v else c.slots[k]? := by
  show (c.slots.setIfInBounds i v)[k]? = _
  rw [Array.getElem?_setIfInBounds]
  by_cases e : i = k
  · rw [if_pos e, if_pos e, if_pos h]
  · rw [if_neg e, if_neg e]
theorem nF_lt {kd k : Nat} {Cn : String} {T : u_T} {N : Nat} (hc : clz kd = some (Cn, T, N)) (h : nF kd k = true) : k < N := by
  unfold clz at hc
  split at hc <;> cases hc
  · exact Nat.le_of_ble_eq_true h
  · exact Nat.le_of_ble_eq_true h
  · exact Nat.le_of_ble_eq_true h
  · exact Nat.le_of_ble_eq_true h
  · exact Nat.le_of_ble_eq_true h
  · have : k = 6 := by simpa [nF] using h
    omega
/-- a field is written -/
theorem j_putV {t k ix a : Nat} {v : Option Nat} {u : AV} {w' : Wd} {Cn : String} {T : u_T} {N : Nat} {ty : FieldType} (K : Cx C cc own d) (hd : decode cc pc = .ok (.putfield ix, 3)) (hc : clz t = some (Cn, T, N)) (hF : nF t k = true) (hq : Cond.fieldLink own ix (T k).1 (T k).2.1 (T k).2.2.1 ∈ lw_all) (ht : (Nat.blt 0 t && Nat.blt t 10) = true)
    (hfin : (T k).2.2.2 = false ∨ ((T k).2.2.2 = true ∧ (mH (cM C)).name = "<init>" ∧ (T k).1 = own)) (ha : v = some a) (hy : tyz t k = ty) (hn : narrow ty (cv (cG C) u) = cv (cG C) u) (hfit : fits ty (cv (cG C) u) = true)
    (hN : gN w' = gN w) (hS : gS w' = gS w) (hK : ∀ b, gK w' b = gK w b) (hL : ∀ b, gL w' b = gL w b)
    (hI : ∀ b j, ¬ (b = a ∧ j = k) → gI w' b j = gI w b j) (hR : ∀ b j, ¬ (b = a ∧ j = k) → gR w' b j = gR w b j) (hJ : ∀ b j, ¬ (b = a ∧ j = k) → gJ w' b j = gJ w b j) (hFx : gK w a = t → cF C = true → Fx w → Fx w')
    (hv : cv (cG C) u = vS (cG C) t k (gI w' a k) (gR w' a k) (gJ w' a k)) (hT : OkV w u → (∀ b, gR w a k = some b → b < gN w ∧ okT (rt t k) (gK w b) = true) → ∀ b, gR w' a k = some b → b < gN w ∧ okT (rt t k) (gK w b) = true) (hB : OkV w u → (bt t k = true → B01 (gI w a k)) → bt t k = true → B01 (gI w' a k))
    (kk : Jf C rr X w' (pc + 3) lv st) : Jf C rr X w pc lv (u :: aR t v :: st) :=
  fun res hX H locs cells slots ls h => by
    subst ha
    have t9 := blt2 ht
    obtain ⟨h1, h2, c, q1, q2, q3, q4, -⟩ := h.d1.cell (by omega) (by omega) h.d1.hd
    have ha7 := h.n4 ht h.d1.hd a rfl
    have ht := t9.2
    obtain ⟨hin, hty, hnm⟩ := clz_ok hc
    have hkn := K.en.1.1 t _ _ _ hc
    obtain ⟨hS', hfc, kC, hkC, hkind⟩ := hkn
    have hk := nF_lt hc hF
    obtain ⟨cf, kf, fi, f, hi, hsl⟩ := hS' k hk
    have hst := (u_facts hfc hkC (u_lays K.ts hin hk) hi).1
    have hd' := (hty k hk).trans (congrArg some hy)
    have hlt : f.slot < c.slots.size := by rw [hsl]; exact k2_hasslot (q4 ht k hF)
    have hap : ∀ x y, nF t x = true → nF t y = true → x ≠ y → xF (cG C) t x ≠ xF (cG C) t y := by
      intro x y hx hy hne
      obtain ⟨_, _, _, fa, hia, ea⟩ := hS' x (nF_lt hc hx)
      obtain ⟨_, _, _, fb, hib, eb⟩ := hS' y (nF_lt hc hy)
      rw [← ea, ← eb]
      refine u_apart (u_lays K.ts hin (nF_lt hc hx)) (u_lays K.ts hin (nF_lt hc hy)) hia hib ?_
      rw [(State.fieldFound?_type hia (hty x (nF_lt hc hx))).1, (State.fieldFound?_type hib (hty y (nF_lt hc hy))).1]
      exact hnm x (nF_lt hc hx) y (nF_lt hc hy) hne
    have fin : ∀ H1 : Heap, H1[xA (cG C) a]? = some (c.setSlot f.slot (cv (cG C) u)) → H1.size = H.size → (∀ q, q ≠ xA (cG C) a → H1[q]? = H[q]?) → WM (cM C) H1 (locs ++ [⟨xA (cG C) a, f.slot⟩]) cells slots (QF C rr res) (F0 (mM (cM C)) (pc + 3) ls (st.map (cv (cG C)))) := by
      intro H1 e1 e2 e3
      refine kk res hX H1 _ cells slots ls (IJ.put K h.d2 ha7 h1 hN hS hK hL (fun b hb => funext fun j => hI b j (fun z => hb z.1)) (fun b hb => funext fun j => hR b j (fun z => hb z.1)) (fun b hb => funext fun j => hJ b j (fun z => hb z.1)) (hFx h2) q1 e1 e2 e3 ?_ ?_ ?_)
      · rw [h2]
        refine Or.inr ⟨_, rfl, q2, q3, fun _ j hj => ?_, fun z => absurd z (by omega)⟩
        rw [slot_set hlt, hsl]
        by_cases e : k = j
        · subst e
          rw [if_pos rfl, hv]
        · rw [if_neg (hap k j hF hj e), q4 ht j hj, hI a j (fun z => e z.2.symm), hR a j (fun z => e z.2.symm), hJ a j (fun z => e z.2.symm)]
      · intro j b hb
        rw [h2]
        by_cases e : j = k
        · subst e
          exact hT h.hd (fun b hb => by have h5 := h.inv.2.2.1 a j b h1 hb; rw [h2] at h5; exact h5) b hb
        · rw [hR a j (fun z => e z.2)] at hb
          have h5 := h.inv.2.2.1 a j b h1 hb
          rw [h2] at h5
          exact h5
      · intro j hj
        rw [h2] at hj
        by_cases e : j = k
        · subst e
          exact hB h.hd (fun z => h.inv.2.2.2.1 a j h1 (by rw [h2]; exact z)) hj
        · rw [hI a j (fun z => e z.2)]
          exact h.inv.2.2.2.1 a j h1 (by rw [h2]; exact hj)
    have hlay := K.ts _ (hin _ (u_in_lay hk))
    unfold u_lay at hlay
    rcases hfin with hf | ⟨hf, hin2, hdecl⟩
    · rw [if_neg (by rw [hf]; decide)] at hlay
      have h6 := u_store hfc hkC hkind hlay hi hd' hn hfit
      exact W.putK K.ex K.cb (f := f) ⟨K.ow, K.ts _ hq, ⟨_, _, _, hi⟩, hst⟩ (by rw [q3]; exact h6) q1 q2 hlt rfl rfl hd fin
    · rw [if_pos hf] at hlay
      have hcf : (mM (cM C)).cls = cf := by
        obtain ⟨_, _, c', _, _, _, -, -, hf', -, -, -, hown2, -⟩ := Cond.laysFinal_spec hlay
        have e1 : c' = cf := by have := hi.symm.trans hf'; simp at this; exact this.1.symm
        rw [hdecl] at hown2
        rw [← e1]; exact Option.some.inj (K.ow.symm.trans hown2)
      have h6 := u_fits hfc hkC hkind (Or.inr hlay) hi hd' hn hfit
      exact W.putFinK K.ex K.cb K.ow (K.ts _ hq) hi hst hcf hin2 (by rw [q3]; exact h6) q1 q2 hlt rfl rfl hd fin
end JHeap
