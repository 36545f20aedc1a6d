set_option maxRecDepth 100000
/-! ===== the script ===== -/
section JSc
variable {α : Type} {C : Cw} {rr : α → Wd → Outcome → Prop} {X A B : Option (Wd × α)} {cc : ByteArray} {own : String} {d : Nat} {w : Wd} {pc : Nat} {lv : Lv} {st : List AV}
theorem j_sal {a n : Nat} {b : Bool} {i : Int32} {v : Option Nat} (K : Cx C cc own d) (hd : decode cc pc = .ok (.iaload, 1)) (ha : v = some a) (hn : ∀ H locs ls, IJ C w H locs lv ls (aB b i :: aR 19 v :: st) → gL w a = n) (hi : ib i n = true)
    (kk : Jf C rr X w (pc + 1) lv (aI (gI w a i.toNatClampNeg) :: st)) : Jf C rr X w pc lv (aB b i :: aR 19 v :: st) :=
  fun res hX H locs cells slots ls h => by
    have hn' := hn H locs ls h
    subst ha
    obtain ⟨h1, h2, c, q1, q2, q3, q4, q5⟩ := h.d1.arr (by omega) (by omega) h.d1.hd
    refine W.iald (v := .int (gI w a i.toNatClampNeg)) K.ex K.cb q1 (isArr (K.en.1.2 19 _ rfl).1 q3 q2) (by rw [q2]; exact fun z => by cases z) (by rw [q4, hn']; exact ib_in hi) (q5 _ (by rw [hn']; exact ib_lt hi)) rfl rfl hd (kk res hX H locs cells slots ls (h.d2.p (okI w _)))
end JSc
