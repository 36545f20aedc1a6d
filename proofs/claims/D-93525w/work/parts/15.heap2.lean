set_option maxRecDepth 100000
section JHeap2
variable {α : Type} {C : Cw} {rr : α → Wd → Outcome → Prop} {X A B : Option (Wd × α)} {cc : ByteArray} {own : String} {d : Nat} {w : Wd} {pc : Nat} {lv : Lv} {st : List AV}
theorem sI_off {w : Wd} {a k : Nat} {x : Int32} {b j : Nat} (h : ¬ (b = a ∧ j = k)) : gI (sI w a k x) b j = gI w b j := by rw [gI_sI, if_neg h]
theorem sI_at {w : Wd} {a k : Nat} {x : Int32} : gI (sI w a k x) a k = x := by rw [gI_sI, if_pos ⟨rfl, rfl⟩]
theorem sR_off {w : Wd} {a k : Nat} {x : Option Nat} {b j : Nat} (h : ¬ (b = a ∧ j = k)) : gR (sR w a k x) b j = gR w b j := by rw [gR_sR, if_neg h]
theorem sR_at {w : Wd} {a k : Nat} {x : Option Nat} : gR (sR w a k x) a k = x := by rw [gR_sR, if_pos ⟨rfl, rfl⟩]
theorem sJ_off {w : Wd} {a k : Nat} {x : Int64} {b j : Nat} (h : ¬ (b = a ∧ j = k)) : gJ (sJ w a k x) b j = gJ w b j := by rw [gJ_sJ, if_neg h]
theorem sJ_at {w : Wd} {a k : Nat} {x : Int64} : gJ (sJ w a k x) a k = x := by rw [gJ_sJ, if_pos ⟨rfl, rfl⟩]
/-- a field is not final, or is its class's own, in a constructor -/
def FinOk (C : Cw) (own : String) (q : String × String × String × Bool) : Prop := q.2.2.2 = false ∨ (q.2.2.2 = true ∧ (mH (cM C)).name = "<init>" ∧ q.1 = own)
theorem j_putI {t k ix a : Nat} {b : Bool} {x : Int32} {v : Option Nat} {Cn : String} {T : u_T} {N : Nat} (K : Cx C cc own d) (hd : decode cc pc = .ok (.putfield ix, 3)) (hc : clz t = some (Cn, T, N)) (hF : nF t k = true) (hq : Cond.fieldLink own ix (T k).1 (T k).2.1 (T k).2.2.1 ∈ lw_all) (ht : (Nat.blt 0 t && Nat.blt t 10) = true) (hfin : FinOk C own (T k)) (hy : tyz t k = .int) (hr : rt t k = 99) (hz : bt t k = false) (ha : v = some a)
    (kk : Jf C rr X (sI w a k x) (pc + 3) lv st) : Jf C rr X w pc lv (aB b x :: aR t v :: st) :=
  j_putV K hd hc hF hq ht hfin ha hy rfl rfl (gN_sI _ _ _ _) (gS_sI _ _ _ _) (gK_sI _ _ _ _) (gL_sI _ _ _ _) (fun _ _ h => sI_off h) (fun _ _ _ => rfl) (fun _ _ _ => rfl) (fun _ _ h => h) (by unfold vS; rw [if_pos hr, if_neg (by have := blt2 ht; omega), sI_at]; rfl)
    (fun _ h b hb => h b hb) (fun _ _ h => by rw [hz] at h; cases h) kk
theorem nar01 {x : Int32} (h : B01 x) : narrow .boolean (.int x) = .int x ∧ fits .boolean (.int x) = true := by
  rcases h with h | h <;> subst h <;> exact ⟨by decide +kernel, by decide +kernel⟩
theorem j_putZ {t k ix a : Nat} {x : Int32} {v : Option Nat} {Cn : String} {T : u_T} {N : Nat} (K : Cx C cc own d) (hd : decode cc pc = .ok (.putfield ix, 3)) (hc : clz t = some (Cn, T, N)) (hF : nF t k = true) (hq : Cond.fieldLink own ix (T k).1 (T k).2.1 (T k).2.2.1 ∈ lw_all) (ht : (Nat.blt 0 t && Nat.blt t 10) = true) (hfin : FinOk C own (T k)) (hy : tyz t k = .boolean) (hr : rt t k = 99) (ha : v = some a)
    (kk : Jf C rr X (sI w a k x) (pc + 3) lv st) : Jf C rr X w pc lv (aZ x :: aR t v :: st) := by
  intro res hX H locs cells slots ls h
  have hb : B01 x := h.hd rfl
  exact j_putV (X := X) (rr := rr) (u := aZ x) K hd hc hF hq ht hfin ha hy (nar01 hb).1 (nar01 hb).2 (gN_sI _ _ _ _) (gS_sI _ _ _ _) (gK_sI _ _ _ _) (gL_sI _ _ _ _) (fun _ _ h => sI_off h) (fun _ _ _ => rfl) (fun _ _ _ => rfl) (fun _ _ h => h) (by unfold vS; rw [if_pos hr, if_neg (by have := blt2 ht; omega), sI_at]; rfl)
    (fun _ h b hb => h b hb) (fun _ _ _ => by rw [sI_at]; exact hb) kk res hX H locs cells slots ls h
theorem j_putR {t t' k ix a : Nat} {x : Option Nat} {v : Option Nat} {Cn : String} {T : u_T} {N : Nat} {ty : FieldType} (K : Cx C cc own d) (hd : decode cc pc = .ok (.putfield ix, 3)) (hc : clz t = some (Cn, T, N)) (hF : nF t k = true) (hq : Cond.fieldLink own ix (T k).1 (T k).2.1 (T k).2.2.1 ∈ lw_all) (ht : (Nat.blt 0 t && Nat.blt t 10) = true) (hfin : FinOk C own (T k)) (hy : tyz t k = ty) (hyr : (∃ n, ty = .object n) ∨ ∃ n, ty = .array n) (hr : rt t k = t') (h9 : t' ≠ 99) (hz : bt t k = false) (hfx : cF C = true → (fxL.all fun q => !(q.2.1 == k && ((t == 1 && q.1 == 8) || (t == 3 && q.1 == 30)))) = true) (ha : v = some a)
    (kk : Jf C rr X (sR w a k x) (pc + 3) lv st) : Jf C rr X w pc lv (aR t' x :: aR t v :: st) :=
  j_putV K hd hc hF hq ht hfin ha hy (by
      show narrow ty (va_rf _) = va_rf _
      rcases hyr with ⟨n, e⟩ | ⟨n, e⟩ <;> subst e <;> cases x <;> rfl) (by
      show fits ty (va_rf _) = true
      rcases hyr with ⟨n, e⟩ | ⟨n, e⟩ <;> subst e <;> cases x <;> rfl) (gN_sR _ _ _ _) (gS_sR _ _ _ _) (gK_sR _ _ _ _) (gL_sR _ _ _ _) (fun _ _ _ => rfl) (fun _ _ h => sR_off h) (fun _ _ _ => rfl)
    (fun hk hf h => fx_sR h (fun q hq2 e => by
      have h1 := List.all_eq_true.mp (hfx hf) q hq2
      have h2 := h.1
      have h3 : ∀ q ∈ fxL, q.1 = 8 ∨ q.1 = 30 := by decide +kernel
      obtain ⟨e1, e2⟩ := e
      rcases h3 q hq2 with h4 | h4
      · have h5 : t = 1 := by rw [← hk, ← e1, h4]; exact h2.1
        simp [e2, h4, h5] at h1
      · have h5 : t = 3 := by rw [← hk, ← e1, h4]; exact h2.2.1
        simp [e2, h4, h5] at h1))
    (by unfold vS; rw [if_neg (by rw [hr]; exact h9), sR_at]; rfl)
    (fun h _ b hb => by rw [sR_at] at hb; rw [hr]; exact h b hb) (fun _ _ h => by rw [hz] at h; cases h) kk
/-! arrays -/
theorem IJ.arr {H : Heap} {locs : List Loc} {ls : Array Slot} {t a : Nat} (h : IJ C w H locs lv ls st) (ht : t < 40) (h0 : 10 ≤ t) (hv : Ty w t (some a)) : a < gN w ∧ gK w a = t ∧ ∃ c : Cell, H[xA (cG C) a]? = some c ∧ c.vm = .none ∧ c.cls = xK (cG C) t ∧ c.slots.size = gL w a ∧ ∀ k, k < gL w a → c.slots[k]? = some (vS (cG C) t k (gI w a k) (gR w a k) (gJ w a k)) := by
  obtain ⟨h1, h2, c, q1, q2, q3, -, q5⟩ := h.cell (by omega) (by omega) hv
  exact ⟨h1, h2, c, q1, q2, q3, q5 h0 ht⟩
theorem isArr {s : State} {c : Cell} {cA : ClassId} {ty : FieldType} (h : ArrOfT s cA ty) (hc : c.cls = cA) (hv : c.vm = .none) : s.isArrayOf c ty := by
  obtain ⟨-, k, hk, r⟩ := h 0 (fun _ => .null)
  exact ⟨fun z => (by rw [hv]; exact fun e => nomatch e), k, (by rw [hc]; exact hk), r⟩
theorem ib_lt {i : Int32} {n : Nat} (h : ib i n = true) : i.toNatClampNeg < n := Nat.not_le.mp fun q => ib_in h (Or.inr q)

theorem j_ial {a n : Nat} {b : Bool} {i : Int32} {v : Option Nat} (K : Cx C cc own d) (hd : decode cc pc = .ok (.iaload, 1)) (ha : v = some a) (hn : ∀ H locs ls, IJ C w H locs lv ls (aB b i :: aR 10 v :: st) → gL w a = n) (hi : ib i n = true)
    (kk : Jf C rr X w (pc + 1) lv (aI (gI w a i.toNatClampNeg) :: st)) : Jf C rr X w pc lv (aB b i :: aR 10 v :: st) :=
  fun res hX H locs cells slots ls h => by
    have hn' := hn H locs ls h
    subst ha
    obtain ⟨h1, h2, c, q1, q2, q3, q4, q5⟩ := h.d1.arr (by omega) (by omega) h.d1.hd
    refine W.iald (v := .int (gI w a i.toNatClampNeg)) K.ex K.cb q1 (isArr (K.en.1.2 10 _ rfl).1 q3 q2) (by rw [q2]; exact fun z => by cases z) (by rw [q4, hn']; exact ib_in hi) (q5 _ (by rw [hn']; exact ib_lt hi)) rfl rfl hd (kk res hX H locs cells slots ls (h.d2.p (okI w _)))
theorem j_tal {a n : Nat} {b : Bool} {i : Int32} {v : Option Nat} (K : Cx C cc own d) (hd : decode cc pc = .ok (.iaload, 1)) (ha : v = some a) (hn : ∀ H locs ls, IJ C w H locs lv ls (aB b i :: aR 18 v :: st) → gL w a = n) (hi : ib i n = true)
    (kk : Jf C rr X w (pc + 1) lv (aI (gI w a i.toNatClampNeg) :: st)) : Jf C rr X w pc lv (aB b i :: aR 18 v :: st) :=
  fun res hX H locs cells slots ls h => by
    have hn' := hn H locs ls h
    subst ha
    obtain ⟨h1, h2, c, q1, q2, q3, q4, q5⟩ := h.d1.arr (by omega) (by omega) h.d1.hd
    refine W.iald (v := .int (gI w a i.toNatClampNeg)) K.ex K.cb q1 (isArr (K.en.1.2 18 _ rfl).1 q3 q2) (by rw [q2]; exact fun z => by cases z) (by rw [q4, hn']; exact ib_in hi) (q5 _ (by rw [hn']; exact ib_lt hi)) rfl rfl hd (kk res hX H locs cells slots ls (h.d2.p (okI w _)))
theorem j_bal {a n : Nat} {b : Bool} {i : Int32} {v : Option Nat} (K : Cx C cc own d) (hd : decode cc pc = .ok (.baload, 1)) (ha : v = some a) (hn : ∀ H locs ls, IJ C w H locs lv ls (aB b i :: aR 12 v :: st) → gL w a = n) (hi : ib i n = true)
    (kk : Jf C rr X w (pc + 1) lv (aI (gI w a i.toNatClampNeg) :: st)) : Jf C rr X w pc lv (aB b i :: aR 12 v :: st) :=
  fun res hX H locs cells slots ls h => by
    have hn' := hn H locs ls h
    subst ha
    obtain ⟨h1, h2, c, q1, q2, q3, q4, q5⟩ := h.d1.arr (by omega) (by omega) h.d1.hd
    refine W.bald (v := .int (gI w a i.toNatClampNeg)) K.ex K.cb q1 (isArr (K.en.1.2 12 _ rfl).1 q3 q2) (by rw [q2]; exact fun z => by cases z) (by rw [q4, hn']; exact ib_in hi) (q5 _ (by rw [hn']; exact ib_lt hi)) rfl rfl hd (kk res hX H locs cells slots ls (h.d2.p (okI w _)))
theorem j_zal {a n : Nat} {b : Bool} {i : Int32} {v : Option Nat} (K : Cx C cc own d) (hd : decode cc pc = .ok (.baload, 1)) (ha : v = some a) (hn : ∀ H locs ls, IJ C w H locs lv ls (aB b i :: aR 11 v :: st) → gL w a = n) (hi : ib i n = true)
    (kk : Jf C rr X w (pc + 1) lv (aZ (gI w a i.toNatClampNeg) :: st)) : Jf C rr X w pc lv (aB b i :: aR 11 v :: st) :=
  fun res hX H locs cells slots ls h => by
    have hn' := hn H locs ls h
    subst ha
    obtain ⟨h1, h2, c, q1, q2, q3, q4, q5⟩ := h.d1.arr (by omega) (by omega) h.d1.hd
    refine W.zald (v := .int (gI w a i.toNatClampNeg)) K.ex K.cb q1 (isArr (K.en.1.2 11 _ rfl).1 q3 q2) (by rw [q2]; exact fun z => by cases z) (by rw [q4, hn']; exact ib_in hi) (q5 _ (by rw [hn']; exact ib_lt hi)) rfl rfl hd (kk res hX H locs cells slots ls (h.d2.p (okZ w (h.inv.2.2.2.1 a _ h1 (by rw [h2]; rfl)))))
theorem j_lal {a n : Nat} {b : Bool} {i : Int32} {v : Option Nat} (K : Cx C cc own d) (hd : decode cc pc = .ok (.laload, 1)) (ha : v = some a) (hn : ∀ H locs ls, IJ C w H locs lv ls (aB b i :: aR 13 v :: st) → gL w a = n) (hi : ib i n = true)
    (kk : Jf C rr X w (pc + 1) lv (aL (gJ w a i.toNatClampNeg) :: st)) : Jf C rr X w pc lv (aB b i :: aR 13 v :: st) :=
  fun res hX H locs cells slots ls h => by
    have hn' := hn H locs ls h
    subst ha
    obtain ⟨h1, h2, c, q1, q2, q3, q4, q5⟩ := h.d1.arr (by omega) (by omega) h.d1.hd
    refine W.lald (v := .long (gJ w a i.toNatClampNeg)) K.ex K.cb q1 (isArr (K.en.1.2 13 _ rfl).1 q3 q2) (by rw [q2]; exact fun z => by cases z) (by rw [q4, hn']; exact ib_in hi) (q5 _ (by rw [hn']; exact ib_lt hi)) rfl rfl hd (kk res hX H locs cells slots ls (h.d2.p trivial))
theorem j_aal {t t' a n : Nat} {b : Bool} {i : Int32} {v : Option Nat} {nm : String} (K : Cx C cc own d) (hd : decode cc pc = .ok (.aaload, 1)) (ht : tyA t = some (.object nm)) (hr : ∀ k, rt t k = t') (h9 : t' ≠ 99) (h10 : (Nat.blt 9 t && Nat.blt t 40) = true) (ha : v = some a) (hn : ∀ H locs ls, IJ C w H locs lv ls (aB b i :: aR t v :: st) → gL w a = n) (hi : ib i n = true)
    (kk : Jf C rr X w (pc + 1) lv (aR t' (gR w a i.toNatClampNeg) :: st)) : Jf C rr X w pc lv (aB b i :: aR t v :: st) :=
  fun res hX H locs cells slots ls h => by
    have hn' := hn H locs ls h
    subst ha
    have t9 := blt2 h10
    obtain ⟨h1, h2, c, q1, q2, q3, q4, q5⟩ := h.d1.arr (by omega) (by omega) h.d1.hd
    refine W.aald (v := rf (cG C) (gR w a i.toNatClampNeg)) (ty := .object nm) K.ex K.cb q1 (isArr (K.en.1.2 t _ ht).1 q3 q2) rfl (by rw [q2]; exact fun z => by cases z) (by rw [q4, hn']; exact ib_in hi) ?_ rfl rfl hd (kk res hX H locs cells slots ls (h.d2.p ?_))
    · rw [q5 _ (by rw [hn']; exact ib_lt hi)]
      unfold vS
      rw [if_neg (by rw [hr]; exact h9)]
    · intro x e
      have h5 := h.inv.2.2.1 a _ x h1 e
      rw [h2, hr] at h5
      exact h5
/-- the length of a fixed array -/
theorem fxLen {t a n : Nat} {u : AV} {o k : Nat} (i : Nat) (hf : cF C = true) (hx : fxL[i]? = some (o, k, a, t, n)) : ∀ H locs ls, IJ C w H locs lv ls (u :: aR t (some a) :: st) → gL w a = n := fun H locs ls h => ((h.fx hf).2 _ (List.mem_of_getElem? hx)).2.2.1
theorem fxLen2 {t a n : Nat} {u u' : AV} {o k : Nat} (i : Nat) (hf : cF C = true) (hx : fxL[i]? = some (o, k, a, t, n)) : ∀ H locs ls, IJ C w H locs lv ls (u :: u' :: aR t (some a) :: st) → gL w a = n := fun H locs ls h => ((h.fx hf).2 _ (List.mem_of_getElem? hx)).2.2.1
theorem tabLen {u : AV} (hf : cF C = true) : ∀ H locs ls, IJ C w H locs lv ls (u :: aR 18 (some 0) :: st) → gL w 0 = 256 := fun H locs ls h => (h.fx hf).1.2.2.2.2.2.2
theorem outLen {u : AV} (hf : cF C = true) : ∀ H locs ls, IJ C w H locs lv ls (u :: aR 13 (some 66) :: st) → gL w 66 = 1 := fun H locs ls h => (h.fx hf).1.2.2.2.1
theorem outLen2 {u u' : AV} (hf : cF C = true) : ∀ H locs ls, IJ C w H locs lv ls (u :: u' :: aR 13 (some 66) :: st) → gL w 66 = 1 := fun H locs ls h => (h.fx hf).1.2.2.2.1
theorem gLen {a : Nat} {st' : List AV} : ∀ H locs ls, IJ C w H locs lv ls st' → gL w a = gL w a := fun _ _ _ _ => rfl
/-- an array's place is written -/
theorem IJ.putA {H H1 : Heap} {locs : List Loc} {ls : Array Slot} {t a i : Nat} {y : Value} {c : Cell} {w' : Wd} {st' : List AV} (K : Cx C cc own d) (h : IJ C w H locs lv ls st') (h10 : 10 ≤ t) (h40 : t < 18) (h1 : a < gN w) (h2 : gK w a = t) (q1 : H[xA (cG C) a]? = some c) (q2 : c.vm = .none) (q3 : c.cls = xK (cG C) t) (q4 : c.slots.size = gL w a) (q5 : ∀ k, k < gL w a → c.slots[k]? = some (vS (cG C) t k (gI w a k) (gR w a k) (gJ w a k))) (hi : i < gL w a)
    (hN : gN w' = gN w) (hS : gS w' = gS w) (hK : ∀ b, gK w' b = gK w b) (hL : ∀ b, gL w' b = gL w b)
    (hI : ∀ b j, ¬ (b = a ∧ j = i) → gI w' b j = gI w b j) (hR : ∀ b j, ¬ (b = a ∧ j = i) → gR w' b j = gR w b j) (hJ : ∀ b j, ¬ (b = a ∧ j = i) → gJ w' b j = gJ w b j) (hFx : cF C = true → Fx w → Fx w')
    (hv : y = vS (cG C) t i (gI w' a i) (gR w' a i) (gJ w' a i)) (hT : ∀ b, gR w' a i = some b → b < gN w ∧ okT (rt t i) (gK w b) = true) (hB : bt t i = true → B01 (gI w' a i))
    (e1 : H1[xA (cG C) a]? = some (c.setSlot i y)) (e2 : H1.size = H.size) (e3 : ∀ q, q ≠ xA (cG C) a → H1[q]? = H[q]?) : IJ C w' H1 (locs ++ [⟨xA (cG C) a, i⟩]) lv ls st' := by
  have ha7 : 8 ≤ a := by
    rcases Nat.lt_or_ge a 8 with h4 | h4
    · have h5 := h.inv.2.2.2.2.2.2.2.2 a h4 h1
      omega
    · exact h4
  refine IJ.put K h ha7 h1 hN hS hK hL (fun b hb => funext fun j => hI b j (fun z => hb z.1)) (fun b hb => funext fun j => hR b j (fun z => hb z.1)) (fun b hb => funext fun j => hJ b j (fun z => hb z.1)) hFx q1 e1 e2 e3 ?_ ?_ ?_
  · rw [h2]
    refine Or.inr ⟨_, rfl, q2, q3, fun z => absurd z (by omega), fun _ _ => ⟨(setSlot_size _ _ _).trans q4, fun j hj => ?_⟩⟩
    rw [slot_set (by rw [q4]; exact hi)]
    by_cases e : i = j
    · subst e
      rw [if_pos rfl, hv]
    · rw [if_neg e, q5 j hj, hI a j (fun z => e z.2.symm), hR a j (fun z => e z.2.symm), hJ a j (fun z => e z.2.symm)]
  · intro j b hb
    rw [h2]
    by_cases e : j = i
    · subst e
      exact hT b hb
    · rw [hR a j (fun z => e z.2)] at hb
      have h5 := h.inv.2.2.1 a j b h1 hb
      rw [h2] at h5
      exact h5
  · intro j hj
    rw [h2] at hj
    by_cases e : j = i
    · subst e
      exact hB hj
    · rw [hI a j (fun z => e z.2)]
      exact h.inv.2.2.2.1 a j h1 (by rw [h2]; exact hj)

theorem j_ias {a n : Nat} {b b' : Bool} {i x : Int32} {v : Option Nat} (K : Cx C cc own d) (hd : decode cc pc = .ok (.iastore, 1)) (ha : v = some a) (hn : ∀ H locs ls, IJ C w H locs lv ls (aB b' x :: aB b i :: aR 10 v :: st) → gL w a = n) (hi : ib i n = true)
    (kk : Jf C rr X (sI w a i.toNatClampNeg x) (pc + 1) lv st) : Jf C rr X w pc lv (aB b' x :: aB b i :: aR 10 v :: st) :=
  fun res hX H locs cells slots ls h => by
    have hn' := hn H locs ls h
    subst ha
    obtain ⟨h1, h2, c, q1, q2, q3, q4, q5⟩ := h.d2.arr (by omega) (by omega) h.d2.hd
    have hlt : i.toNatClampNeg < gL w a := by rw [hn']; exact ib_lt hi
    refine W.iast K.ex K.cb q1 (isArr (K.en.1.2 10 _ rfl).1 q3 q2) (by rw [q2]; exact fun z => by cases z) (by rw [q4, hn']; exact ib_in hi) rfl rfl hd (fun H1 e1 e2 e3 => kk res hX H1 _ cells slots ls (IJ.putA (y := .int x) K h.d3 (by omega) (by omega) h1 h2 q1 q2 q3 q4 q5 hlt (gN_sI _ _ _ _) (gS_sI _ _ _ _) (gK_sI _ _ _ _) (gL_sI _ _ _ _) (fun _ _ h => sI_off h) (fun _ _ _ => rfl) (fun _ _ _ => rfl) (fun _ h => h) (by rw [sI_at]; rfl) (fun b hb => by have h5 := h.inv.2.2.1 a _ b h1 hb; rw [h2] at h5; exact h5) (fun z => by cases z) e1 e2 e3))
theorem j_bas {a n : Nat} {b b' : Bool} {i x : Int32} {v : Option Nat} (K : Cx C cc own d) (hd : decode cc pc = .ok (.bastore, 1)) (ha : v = some a) (hn : ∀ H locs ls, IJ C w H locs lv ls (aB b' x :: aB b i :: aR 12 v :: st) → gL w a = n) (hi : ib i n = true)
    (kk : Jf C rr X (sI w a i.toNatClampNeg (vp_nar .byte x)) (pc + 1) lv st) : Jf C rr X w pc lv (aB b' x :: aB b i :: aR 12 v :: st) :=
  fun res hX H locs cells slots ls h => by
    have hn' := hn H locs ls h
    subst ha
    obtain ⟨h1, h2, c, q1, q2, q3, q4, q5⟩ := h.d2.arr (by omega) (by omega) h.d2.hd
    have hlt : i.toNatClampNeg < gL w a := by rw [hn']; exact ib_lt hi
    refine W.bast K.ex K.cb q1 (isArr (K.en.1.2 12 _ rfl).1 q3 q2) (by rw [q2]; exact fun z => by cases z) (by rw [q4, hn']; exact ib_in hi) rfl rfl hd (fun H1 e1 e2 e3 => kk res hX H1 _ cells slots ls (IJ.putA (y := narrow .byte (.int x)) K h.d3 (by omega) (by omega) h1 h2 q1 q2 q3 q4 q5 hlt (gN_sI _ _ _ _) (gS_sI _ _ _ _) (gK_sI _ _ _ _) (gL_sI _ _ _ _) (fun _ _ h => sI_off h) (fun _ _ _ => rfl) (fun _ _ _ => rfl) (fun _ h => h) (by rw [sI_at]; rfl) (fun b hb => by have h5 := h.inv.2.2.1 a _ b h1 hb; rw [h2] at h5; exact h5) (fun z => by cases z) e1 e2 e3))
theorem nz01 (x : Int32) : B01 (vp_nar .boolean x) := by
  have h : vp_nar .boolean x = x &&& 1 := by
    unfold vp_nar narrow
    rfl
  rw [h]
  obtain ⟨j, hj, e⟩ := pk_andE x (m := 1) 1 (by decide)
  rw [e]
  have : j = 0 ∨ j = 1 := by omega
  rcases this with h | h <;> subst h
  · exact Or.inl (by decide +kernel)
  · exact Or.inr (by decide +kernel)
theorem j_zas {a n : Nat} {b b' : Bool} {i x : Int32} {v : Option Nat} (K : Cx C cc own d) (hd : decode cc pc = .ok (.bastore, 1)) (ha : v = some a) (hn : ∀ H locs ls, IJ C w H locs lv ls (aB b' x :: aB b i :: aR 11 v :: st) → gL w a = n) (hi : ib i n = true)
    (kk : Jf C rr X (sI w a i.toNatClampNeg (vp_nar .boolean x)) (pc + 1) lv st) : Jf C rr X w pc lv (aB b' x :: aB b i :: aR 11 v :: st) :=
  fun res hX H locs cells slots ls h => by
    have hn' := hn H locs ls h
    subst ha
    obtain ⟨h1, h2, c, q1, q2, q3, q4, q5⟩ := h.d2.arr (by omega) (by omega) h.d2.hd
    have hlt : i.toNatClampNeg < gL w a := by rw [hn']; exact ib_lt hi
    refine W.zast K.ex K.cb q1 (isArr (K.en.1.2 11 _ rfl).1 q3 q2) (by rw [q2]; exact fun z => by cases z) (by rw [q4, hn']; exact ib_in hi) rfl rfl hd (fun H1 e1 e2 e3 => kk res hX H1 _ cells slots ls (IJ.putA (y := narrow .boolean (.int x)) K h.d3 (by omega) (by omega) h1 h2 q1 q2 q3 q4 q5 hlt (gN_sI _ _ _ _) (gS_sI _ _ _ _) (gK_sI _ _ _ _) (gL_sI _ _ _ _) (fun _ _ h => sI_off h) (fun _ _ _ => rfl) (fun _ _ _ => rfl) (fun _ h => h) (by rw [sI_at]; rfl) (fun b hb => by have h5 := h.inv.2.2.1 a _ b h1 hb; rw [h2] at h5; exact h5) (fun _ => by rw [sI_at]; exact nz01 x) e1 e2 e3))
theorem j_las {a n : Nat} {b : Bool} {i : Int32} {x : Int64} {v : Option Nat} (K : Cx C cc own d) (hd : decode cc pc = .ok (.lastore, 1)) (ha : v = some a) (hn : ∀ H locs ls, IJ C w H locs lv ls (aL x :: aB b i :: aR 13 v :: st) → gL w a = n) (hi : ib i n = true)
    (kk : Jf C rr X (sJ w a i.toNatClampNeg x) (pc + 1) lv st) : Jf C rr X w pc lv (aL x :: aB b i :: aR 13 v :: st) :=
  fun res hX H locs cells slots ls h => by
    have hn' := hn H locs ls h
    subst ha
    obtain ⟨h1, h2, c, q1, q2, q3, q4, q5⟩ := h.d2.arr (by omega) (by omega) h.d2.hd
    have hlt : i.toNatClampNeg < gL w a := by rw [hn']; exact ib_lt hi
    refine W.last K.ex K.cb q1 (isArr (K.en.1.2 13 _ rfl).1 q3 q2) (by rw [q2]; exact fun z => by cases z) (by rw [q4, hn']; exact ib_in hi) rfl rfl hd (fun H1 e1 e2 e3 => kk res hX H1 _ cells slots ls (IJ.putA (y := .long x) K h.d3 (by omega) (by omega) h1 h2 q1 q2 q3 q4 q5 hlt (gN_sJ _ _ _ _) (gS_sJ _ _ _ _) (gK_sJ _ _ _ _) (gL_sJ _ _ _ _) (fun _ _ _ => rfl) (fun _ _ _ => rfl) (fun _ _ h => sJ_off h) (fun _ h => h) (by rw [sJ_at]; rfl) (fun b hb => by have h5 := h.inv.2.2.1 a _ b h1 hb; rw [h2] at h5; exact h5) (fun z => by cases z) e1 e2 e3))
theorem j_alen {t a : Nat} {v : Option Nat} {ty : FieldType} (K : Cx C cc own d) (hd : decode cc pc = .ok (.arraylength, 1)) (ht : tyA t = some ty) (h10 : (Nat.blt 9 t && Nat.blt t 40) = true) (ha : v = some a)
    (kk : Jf C rr X w (pc + 1) lv (aI (Int32.ofNat (gL w a)) :: st)) : Jf C rr X w pc lv (aR t v :: st) :=
  fun res hX H locs cells slots ls h => by
    subst ha
    have t9 := blt2 h10
    obtain ⟨h1, h2, c, q1, q2, q3, q4, q5⟩ := h.arr (by omega) (by omega) h.hd
    exact W.alen (n := Int32.ofNat (gL w a)) K.ex K.cb q1 (isArr (K.en.1.2 t _ ht).1 q3 q2) (by rw [q4]) rfl rfl hd (kk res hX H locs cells slots ls (h.d1.p (okI w _)))
end JHeap2
