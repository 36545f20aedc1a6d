set_option maxRecDepth 100000
theorem pm_X2_init : yX2_init.cls = RX2 ∧ yX2_init.cls ≠ "java/lang/invoke/MethodHandle" ∧ yX2_init.cls ≠ "java/lang/invoke/VarHandle" ∧ (parseMethodDescriptor yX2_init.desc).map (fun d => d.parameters.length) = some 0 := by decide +kernel
def f_X2_init (d : Nat) (a0 : Nat) (w : Wd) : Option (Wd × Unit) :=
  match d with
  | 0 => none
  | d + 1 =>
    some (w, ())
theorem sim_X2_init {G : Gx} (hG : GW G) {l : Launch} (hl : l.stackTraces = false) (d : Nat) (a0 : Nat) (w : Wd) : Mt G true l yX2_init (ws_ yX2_init cX2_init 1 (none)) d (rrV G pU) [aR 2 (some a0)] w (f_X2_init d a0 w) := by
  refine Mt.of (own := "IntervalTree$Cursor") hG hl (by decide +kernel) rfl rfl ?_
  intro M hM hr hnm hxt hnd K
  subst hM
  cases d with
  | zero => exact j_none
  | succ d =>
    refine j_aload_n K dX2_init_0 rfl ?_
    refine j_objI K dX2_init_1 q159 q122 q123 (by omega) rfl rfl ?_
    exact j_vret K hr dX2_init_4

theorem sim0_X2_init {G : Gx} (hG : GW G) {l : Launch} (hl : l.stackTraces = false) (d : Nat) (a0 : Nat) (w : Wd) : Mt G false l yX2_init (ws_ yX2_init cX2_init 1 (none)) d (rrV G pU) [aR 2 (some a0)] w (f_X2_init d a0 w) := by
  refine Mt.of (own := "IntervalTree$Cursor") hG hl (by decide +kernel) rfl rfl ?_
  intro M hM hr hnm hxt hnd K
  subst hM
  cases d with
  | zero => exact j_none
  | succ d =>
    refine j_aload_n K dX2_init_0 rfl ?_
    refine j_objI K dX2_init_1 q159 q122 q123 (by omega) rfl rfl ?_
    exact j_vret K hr dX2_init_4

theorem pm_X1_init_2 : yX1_init_2.cls = RX1 ∧ yX1_init_2.cls ≠ "java/lang/invoke/MethodHandle" ∧ yX1_init_2.cls ≠ "java/lang/invoke/VarHandle" ∧ (parseMethodDescriptor yX1_init_2.desc).map (fun d => d.parameters.length) = some 1 := by decide +kernel
def b_X1_init_2_125 (d : Nat) : Nat → Int32 → Int32 → Wd → Option (Wd × Unit)
  | 0, _, _, _ => none
  | n + 1, x1, x2, w =>
    if 4 ≤ x2 then
      (nwB w 14 100 100).bind fun w33 =>
      (nwB (sR w33 8 12 (some (gN w))) 10 101 101).bind fun w34 =>
      (nwB (sR w34 8 18 (some (gN (sR w33 8 12 (some (gN w)))))) 10 100 100).bind fun w35 =>
      (nwB (sR w35 8 19 (some (gN (sR w34 8 18 (some (gN (sR w33 8 12 (some (gN w))))))))) 12 60 60).bind fun w36 =>
      (nwB (sR w36 8 20 (some (gN (sR w35 8 19 (some (gN (sR w34 8 18 (some (gN (sR w33 8 12 (some (gN w)))))))))))) 10 500 500).bind fun w37 =>
      (nwB (sR w37 8 22 (some (gN (sR w36 8 20 (some (gN (sR w35 8 19 (some (gN (sR w34 8 18 (some (gN (sR w33 8 12 (some (gN w))))))))))))))) 10 500 500).bind fun w38 =>
      (nwB (sR w38 8 23 (some (gN (sR w37 8 22 (some (gN (sR w36 8 20 (some (gN (sR w35 8 19 (some (gN (sR w34 8 18 (some (gN (sR w33 8 12 (some (gN w)))))))))))))))))) 10 500 500).bind fun w39 =>
      (nwB (sR w39 8 24 (some (gN (sR w38 8 23 (some (gN (sR w37 8 22 (some (gN (sR w36 8 20 (some (gN (sR w35 8 19 (some (gN (sR w34 8 18 (some (gN (sR w33 8 12 (some (gN w))))))))))))))))))))) 10 500 500).bind fun w40 =>
      (nwB (sR w40 8 25 (some (gN (sR w39 8 24 (some (gN (sR w38 8 23 (some (gN (sR w37 8 22 (some (gN (sR w36 8 20 (some (gN (sR w35 8 19 (some (gN (sR w34 8 18 (some (gN (sR w33 8 12 (some (gN w)))))))))))))))))))))))) 10 500 500).bind fun w41 =>
      (nwB (sR w41 8 26 (some (gN (sR w40 8 25 (some (gN (sR w39 8 24 (some (gN (sR w38 8 23 (some (gN (sR w37 8 22 (some (gN (sR w36 8 20 (some (gN (sR w35 8 19 (some (gN (sR w34 8 18 (some (gN (sR w33 8 12 (some (gN w))))))))))))))))))))))))))) 11 500 500).bind fun w42 =>
      (nwB (sR w42 8 27 (some (gN (sR w41 8 26 (some (gN (sR w40 8 25 (some (gN (sR w39 8 24 (some (gN (sR w38 8 23 (some (gN (sR w37 8 22 (some (gN (sR w36 8 20 (some (gN (sR w35 8 19 (some (gN (sR w34 8 18 (some (gN (sR w33 8 12 (some (gN w)))))))))))))))))))))))))))))) 11 500 500).bind fun w43 =>
      some (sI (sI (sR w43 8 28 (some (gN (sR w42 8 27 (some (gN (sR w41 8 26 (some (gN (sR w40 8 25 (some (gN (sR w39 8 24 (some (gN (sR w38 8 23 (some (gN (sR w37 8 22 (some (gN (sR w36 8 20 (some (gN (sR w35 8 19 (some (gN (sR w34 8 18 (some (gN (sR w33 8 12 (some (gN w))))))))))))))))))))))))))))))))) 8 30 (-1)) 8 8 x1, ())
    else
      (nwB w 2 0 6).bind fun w44 =>
      (f_X2_init d (gN w) w44).bind fun r45 =>
      (gR w 8 3).bind fun a46 =>
      if ib x2 (gL r45.1 a46) = true then
        b_X1_init_2_125 d n x1 (x2 + 1) (sR r45.1 a46 x2.toNatClampNeg (some (gN w)))
      else none
def f_X1_init_2 (d : Nat) (p1 : Int32) (w : Wd) : Option (Wd × Unit) :=
  match d with
  | 0 => none
  | d + 1 =>
    (nwB w 14 500 500).bind fun w1 =>
    (nwB (sR w1 8 0 (some (gN w))) 15 8 8).bind fun w2 =>
    (nwB (sR w2 8 1 (some (gN (sR w1 8 0 (some (gN w)))))) 16 4 4).bind fun w3 =>
    (nwB (sR w3 8 2 (some (gN (sR w2 8 1 (some (gN (sR w1 8 0 (some (gN w))))))))) 17 4 4).bind fun w4 =>
    if 49 ≤ d then
      if gK (sR w4 8 3 (some (gN (sR w3 8 2 (some (gN (sR w2 8 1 (some (gN (sR w1 8 0 (some (gN w)))))))))))) 1 = 20 then
        (gR (sR w4 8 3 (some (gN (sR w3 8 2 (some (gN (sR w2 8 1 (some (gN (sR w1 8 0 (some (gN w)))))))))))) 8 2).bind fun a7 =>
        if ib 0 (gL (sR w4 8 3 (some (gN (sR w3 8 2 (some (gN (sR w2 8 1 (some (gN (sR w1 8 0 (some (gN w)))))))))))) a7) = true then
          if 49 ≤ d then
            if gK (sR (sR w4 8 3 (some (gN (sR w3 8 2 (some (gN (sR w2 8 1 (some (gN (sR w1 8 0 (some (gN w)))))))))))) a7 (Int32.toNatClampNeg 0) (some 1)) 2 = 21 then
              (gR (sR (sR w4 8 3 (some (gN (sR w3 8 2 (some (gN (sR w2 8 1 (some (gN (sR w1 8 0 (some (gN w)))))))))))) a7 (Int32.toNatClampNeg 0) (some 1)) 8 2).bind fun a11 =>
              if ib 1 (gL (sR (sR w4 8 3 (some (gN (sR w3 8 2 (some (gN (sR w2 8 1 (some (gN (sR w1 8 0 (some (gN w)))))))))))) a7 (Int32.toNatClampNeg 0) (some 1)) a11) = true then
                if 49 ≤ d then
                  (nwB (sR (sR (sR w4 8 3 (some (gN (sR w3 8 2 (some (gN (sR w2 8 1 (some (gN (sR w1 8 0 (some (gN w)))))))))))) a7 (Int32.toNatClampNeg 0) (some 1)) a11 (Int32.toNatClampNeg 1) (some 2)) 22 1 1).bind fun w14 =>
                  (gR (sR (sR (sR w4 8 3 (some (gN (sR w3 8 2 (some (gN (sR w2 8 1 (some (gN (sR w1 8 0 (some (gN w)))))))))))) a7 (Int32.toNatClampNeg 0) (some 1)) a11 (Int32.toNatClampNeg 1) (some 2)) 8 2).bind fun a15 =>
                  if ib 2 (gL (setAs w14 (gN (sR (sR (sR w4 8 3 (some (gN (sR w3 8 2 (some (gN (sR w2 8 1 (some (gN (sR w1 8 0 (some (gN w)))))))))))) a7 (Int32.toNatClampNeg 0) (some 1)) a11 (Int32.toNatClampNeg 1) (some 2))) 0 [aR 1 (some 8)]) a15) = true then
                    if 49 ≤ d then
                      if gK (sR (setAs w14 (gN (sR (sR (sR w4 8 3 (some (gN (sR w3 8 2 (some (gN (sR w2 8 1 (some (gN (sR w1 8 0 (some (gN w)))))))))))) a7 (Int32.toNatClampNeg 0) (some 1)) a11 (Int32.toNatClampNeg 1) (some 2))) 0 [aR 1 (some 8)]) a15 (Int32.toNatClampNeg 2) (some (gN (sR (sR (sR w4 8 3 (some (gN (sR w3 8 2 (some (gN (sR w2 8 1 (some (gN (sR w1 8 0 (some (gN w)))))))))))) a7 (Int32.toNatClampNeg 0) (some 1)) a11 (Int32.toNatClampNeg 1) (some 2))))) 3 = 23 then
                        (gR (sR (setAs w14 (gN (sR (sR (sR w4 8 3 (some (gN (sR w3 8 2 (some (gN (sR w2 8 1 (some (gN (sR w1 8 0 (some (gN w)))))))))))) a7 (Int32.toNatClampNeg 0) (some 1)) a11 (Int32.toNatClampNeg 1) (some 2))) 0 [aR 1 (some 8)]) a15 (Int32.toNatClampNeg 2) (some (gN (sR (sR (sR w4 8 3 (some (gN (sR w3 8 2 (some (gN (sR w2 8 1 (some (gN (sR w1 8 0 (some (gN w)))))))))))) a7 (Int32.toNatClampNeg 0) (some 1)) a11 (Int32.toNatClampNeg 1) (some 2))))) 8 2).bind fun a19 =>
                        if ib 3 (gL (sR (setAs w14 (gN (sR (sR (sR w4 8 3 (some (gN (sR w3 8 2 (some (gN (sR w2 8 1 (some (gN (sR w1 8 0 (some (gN w)))))))))))) a7 (Int32.toNatClampNeg 0) (some 1)) a11 (Int32.toNatClampNeg 1) (some 2))) 0 [aR 1 (some 8)]) a15 (Int32.toNatClampNeg 2) (some (gN (sR (sR (sR w4 8 3 (some (gN (sR w3 8 2 (some (gN (sR w2 8 1 (some (gN (sR w1 8 0 (some (gN w)))))))))))) a7 (Int32.toNatClampNeg 0) (some 1)) a11 (Int32.toNatClampNeg 1) (some 2))))) a19) = true then
                          if 49 ≤ d then
                            if gK (sR (sR (setAs w14 (gN (sR (sR (sR w4 8 3 (some (gN (sR w3 8 2 (some (gN (sR w2 8 1 (some (gN (sR w1 8 0 (some (gN w)))))))))))) a7 (Int32.toNatClampNeg 0) (some 1)) a11 (Int32.toNatClampNeg 1) (some 2))) 0 [aR 1 (some 8)]) a15 (Int32.toNatClampNeg 2) (some (gN (sR (sR (sR w4 8 3 (some (gN (sR w3 8 2 (some (gN (sR w2 8 1 (some (gN (sR w1 8 0 (some (gN w)))))))))))) a7 (Int32.toNatClampNeg 0) (some 1)) a11 (Int32.toNatClampNeg 1) (some 2))))) a19 (Int32.toNatClampNeg 3) (some 3)) 4 = 24 then
                              (gR (sR (sR (setAs w14 (gN (sR (sR (sR w4 8 3 (some (gN (sR w3 8 2 (some (gN (sR w2 8 1 (some (gN (sR w1 8 0 (some (gN w)))))))))))) a7 (Int32.toNatClampNeg 0) (some 1)) a11 (Int32.toNatClampNeg 1) (some 2))) 0 [aR 1 (some 8)]) a15 (Int32.toNatClampNeg 2) (some (gN (sR (sR (sR w4 8 3 (some (gN (sR w3 8 2 (some (gN (sR w2 8 1 (some (gN (sR w1 8 0 (some (gN w)))))))))))) a7 (Int32.toNatClampNeg 0) (some 1)) a11 (Int32.toNatClampNeg 1) (some 2))))) a19 (Int32.toNatClampNeg 3) (some 3)) 8 1).bind fun a23 =>
                              if ib 0 (gL (sR (sR (setAs w14 (gN (sR (sR (sR w4 8 3 (some (gN (sR w3 8 2 (some (gN (sR w2 8 1 (some (gN (sR w1 8 0 (some (gN w)))))))))))) a7 (Int32.toNatClampNeg 0) (some 1)) a11 (Int32.toNatClampNeg 1) (some 2))) 0 [aR 1 (some 8)]) a15 (Int32.toNatClampNeg 2) (some (gN (sR (sR (sR w4 8 3 (some (gN (sR w3 8 2 (some (gN (sR w2 8 1 (some (gN (sR w1 8 0 (some (gN w)))))))))))) a7 (Int32.toNatClampNeg 0) (some 1)) a11 (Int32.toNatClampNeg 1) (some 2))))) a19 (Int32.toNatClampNeg 3) (some 3)) a23) = true then
                                if 49 ≤ d then
                                  if gK (sR (sR (sR (setAs w14 (gN (sR (sR (sR w4 8 3 (some (gN (sR w3 8 2 (some (gN (sR w2 8 1 (some (gN (sR w1 8 0 (some (gN w)))))))))))) a7 (Int32.toNatClampNeg 0) (some 1)) a11 (Int32.toNatClampNeg 1) (some 2))) 0 [aR 1 (some 8)]) a15 (Int32.toNatClampNeg 2) (some (gN (sR (sR (sR w4 8 3 (some (gN (sR w3 8 2 (some (gN (sR w2 8 1 (some (gN (sR w1 8 0 (some (gN w)))))))))))) a7 (Int32.toNatClampNeg 0) (some 1)) a11 (Int32.toNatClampNeg 1) (some 2))))) a19 (Int32.toNatClampNeg 3) (some 3)) a23 (Int32.toNatClampNeg 0) (some 4)) 5 = 25 then
                                    (gR (sR (sR (sR (setAs w14 (gN (sR (sR (sR w4 8 3 (some (gN (sR w3 8 2 (some (gN (sR w2 8 1 (some (gN (sR w1 8 0 (some (gN w)))))))))))) a7 (Int32.toNatClampNeg 0) (some 1)) a11 (Int32.toNatClampNeg 1) (some 2))) 0 [aR 1 (some 8)]) a15 (Int32.toNatClampNeg 2) (some (gN (sR (sR (sR w4 8 3 (some (gN (sR w3 8 2 (some (gN (sR w2 8 1 (some (gN (sR w1 8 0 (some (gN w)))))))))))) a7 (Int32.toNatClampNeg 0) (some 1)) a11 (Int32.toNatClampNeg 1) (some 2))))) a19 (Int32.toNatClampNeg 3) (some 3)) a23 (Int32.toNatClampNeg 0) (some 4)) 8 1).bind fun a27 =>
                                    if ib 1 (gL (sR (sR (sR (setAs w14 (gN (sR (sR (sR w4 8 3 (some (gN (sR w3 8 2 (some (gN (sR w2 8 1 (some (gN (sR w1 8 0 (some (gN w)))))))))))) a7 (Int32.toNatClampNeg 0) (some 1)) a11 (Int32.toNatClampNeg 1) (some 2))) 0 [aR 1 (some 8)]) a15 (Int32.toNatClampNeg 2) (some (gN (sR (sR (sR w4 8 3 (some (gN (sR w3 8 2 (some (gN (sR w2 8 1 (some (gN (sR w1 8 0 (some (gN w)))))))))))) a7 (Int32.toNatClampNeg 0) (some 1)) a11 (Int32.toNatClampNeg 1) (some 2))))) a19 (Int32.toNatClampNeg 3) (some 3)) a23 (Int32.toNatClampNeg 0) (some 4)) a27) = true then
                                      if 49 ≤ d then
                                        (nwB (sR (sR (sR (sR (setAs w14 (gN (sR (sR (sR w4 8 3 (some (gN (sR w3 8 2 (some (gN (sR w2 8 1 (some (gN (sR w1 8 0 (some (gN w)))))))))))) a7 (Int32.toNatClampNeg 0) (some 1)) a11 (Int32.toNatClampNeg 1) (some 2))) 0 [aR 1 (some 8)]) a15 (Int32.toNatClampNeg 2) (some (gN (sR (sR (sR w4 8 3 (some (gN (sR w3 8 2 (some (gN (sR w2 8 1 (some (gN (sR w1 8 0 (some (gN w)))))))))))) a7 (Int32.toNatClampNeg 0) (some 1)) a11 (Int32.toNatClampNeg 1) (some 2))))) a19 (Int32.toNatClampNeg 3) (some 3)) a23 (Int32.toNatClampNeg 0) (some 4)) a27 (Int32.toNatClampNeg 1) (some 5)) 26 1 1).bind fun w30 =>
                                        (gR (sR (sR (sR (sR (setAs w14 (gN (sR (sR (sR w4 8 3 (some (gN (sR w3 8 2 (some (gN (sR w2 8 1 (some (gN (sR w1 8 0 (some (gN w)))))))))))) a7 (Int32.toNatClampNeg 0) (some 1)) a11 (Int32.toNatClampNeg 1) (some 2))) 0 [aR 1 (some 8)]) a15 (Int32.toNatClampNeg 2) (some (gN (sR (sR (sR w4 8 3 (some (gN (sR w3 8 2 (some (gN (sR w2 8 1 (some (gN (sR w1 8 0 (some (gN w)))))))))))) a7 (Int32.toNatClampNeg 0) (some 1)) a11 (Int32.toNatClampNeg 1) (some 2))))) a19 (Int32.toNatClampNeg 3) (some 3)) a23 (Int32.toNatClampNeg 0) (some 4)) a27 (Int32.toNatClampNeg 1) (some 5)) 8 1).bind fun a31 =>
                                        if ib 2 (gL (setAs w30 (gN (sR (sR (sR (sR (setAs w14 (gN (sR (sR (sR w4 8 3 (some (gN (sR w3 8 2 (some (gN (sR w2 8 1 (some (gN (sR w1 8 0 (some (gN w)))))))))))) a7 (Int32.toNatClampNeg 0) (some 1)) a11 (Int32.toNatClampNeg 1) (some 2))) 0 [aR 1 (some 8)]) a15 (Int32.toNatClampNeg 2) (some (gN (sR (sR (sR w4 8 3 (some (gN (sR w3 8 2 (some (gN (sR w2 8 1 (some (gN (sR w1 8 0 (some (gN w)))))))))))) a7 (Int32.toNatClampNeg 0) (some 1)) a11 (Int32.toNatClampNeg 1) (some 2))))) a19 (Int32.toNatClampNeg 3) (some 3)) a23 (Int32.toNatClampNeg 0) (some 4)) a27 (Int32.toNatClampNeg 1) (some 5))) 0 [aR 1 (some 8)]) a31) = true then
                                          b_X1_init_2_125 d FU p1 0 (sI (sR (setAs w30 (gN (sR (sR (sR (sR (setAs w14 (gN (sR (sR (sR w4 8 3 (some (gN (sR w3 8 2 (some (gN (sR w2 8 1 (some (gN (sR w1 8 0 (some (gN w)))))))))))) a7 (Int32.toNatClampNeg 0) (some 1)) a11 (Int32.toNatClampNeg 1) (some 2))) 0 [aR 1 (some 8)]) a15 (Int32.toNatClampNeg 2) (some (gN (sR (sR (sR w4 8 3 (some (gN (sR w3 8 2 (some (gN (sR w2 8 1 (some (gN (sR w1 8 0 (some (gN w)))))))))))) a7 (Int32.toNatClampNeg 0) (some 1)) a11 (Int32.toNatClampNeg 1) (some 2))))) a19 (Int32.toNatClampNeg 3) (some 3)) a23 (Int32.toNatClampNeg 0) (some 4)) a27 (Int32.toNatClampNeg 1) (some 5))) 0 [aR 1 (some 8)]) a31 (Int32.toNatClampNeg 2) (some (gN (sR (sR (sR (sR (setAs w14 (gN (sR (sR (sR w4 8 3 (some (gN (sR w3 8 2 (some (gN (sR w2 8 1 (some (gN (sR w1 8 0 (some (gN w)))))))))))) a7 (Int32.toNatClampNeg 0) (some 1)) a11 (Int32.toNatClampNeg 1) (some 2))) 0 [aR 1 (some 8)]) a15 (Int32.toNatClampNeg 2) (some (gN (sR (sR (sR w4 8 3 (some (gN (sR w3 8 2 (some (gN (sR w2 8 1 (some (gN (sR w1 8 0 (some (gN w)))))))))))) a7 (Int32.toNatClampNeg 0) (some 1)) a11 (Int32.toNatClampNeg 1) (some 2))))) a19 (Int32.toNatClampNeg 3) (some 3)) a23 (Int32.toNatClampNeg 0) (some 4)) a27 (Int32.toNatClampNeg 1) (some 5))))) 8 11 3)
                                        else none
                                      else none
                                    else none
                                  else none
                                else none
                              else none
                            else none
                          else none
                        else none
                      else none
                    else none
                  else none
                else none
              else none
            else none
          else none
        else none
      else none
    else none
theorem sb0_X1_init_2_125 {G : Gx} (hG : GW G) {M : Mx} (hl : (mL M).stackTraces = false) {w0 : Wd} {d : Nat} (K : Cx (G, false, M, 3, w0) cX1_init_2 "IntervalTree" (d + 1)) (hr : (mH M).sig.returnType = none) (hnm : (mH M).name = yX1_init_2.name) (hxt : ∀ x ∈ (mC M).exceptionTable.toList, False) (hnd : (mS M).methodNamed? yX1_init_2 = some (mM M)) : ∀ (n : Nat), ∀ (x1 : Int32) (x2 : Int32) (w : Wd) (fx1 : Bool) (fx2 : Bool), Jf (G, false, M, 3, w0) (rrV G pU) (b_X1_init_2_125 d n x1 x2 w) w 125 [some (aR 1 (some 8)), some (aB fx1 x1), some (aB fx2 x2)] [] := by
  intro n
  induction n with
  | zero => intros; exact j_none
  | succ n ih =>
    intro x1 x2 w fx1 fx2
    refine j_iload_n K dX1_init_2_125 rfl ?_
    refine j_iconst (x := 4) K dX1_init_2_126 rfl ?_
    refine j_icmp_ge 149 K dX1_init_2_127 (by decide) ?_ ?_
    · refine j_aload_n K dX1_init_2_149 rfl ?_
      refine j_bipush (x := 100) K dX1_init_2_150 (by decide +kernel) ?_
      refine j_anewB (kd := 14) (N := 100) K dX1_init_2_152 rfl rfl q124 q125 (by decide +kernel) (by decide +kernel) rfl (fun _ => show (4 : Nat) ≠ 99 from by decide) (fun w33 => ?_)
      refine j_putR (k := 12) K dX1_init_2_155 rfl rfl q193 rfl (Or.inr ⟨rfl, hnm, rfl⟩) rfl (Or.inr ⟨_, rfl⟩) rfl (by decide) rfl (fun h => by cases h) rfl ?_
      refine j_aload_n K dX1_init_2_158 rfl ?_
      refine j_bipush (x := 101) K dX1_init_2_159 (by decide +kernel) ?_
      refine j_newaB (kd := 10) (N := 101) (ty := .int) K dX1_init_2_161 rfl rfl (fun _ _ h => h) rfl q286 (by decide +kernel) (by decide +kernel) rfl (fun _ => rfl) (fun w34 => ?_)
      refine j_putR (k := 18) K dX1_init_2_163 rfl rfl q199 rfl (Or.inr ⟨rfl, hnm, rfl⟩) rfl (Or.inr ⟨_, rfl⟩) rfl (by decide) rfl (fun h => by cases h) rfl ?_
      refine j_aload_n K dX1_init_2_166 rfl ?_
      refine j_bipush (x := 100) K dX1_init_2_167 (by decide +kernel) ?_
      refine j_newaB (kd := 10) (N := 100) (ty := .int) K dX1_init_2_169 rfl rfl (fun _ _ h => h) rfl q286 (by decide +kernel) (by decide +kernel) rfl (fun _ => rfl) (fun w35 => ?_)
      refine j_putR (k := 19) K dX1_init_2_171 rfl rfl q200 rfl (Or.inr ⟨rfl, hnm, rfl⟩) rfl (Or.inr ⟨_, rfl⟩) rfl (by decide) rfl (fun h => by cases h) rfl ?_
      refine j_aload_n K dX1_init_2_174 rfl ?_
      refine j_bipush (x := 60) K dX1_init_2_175 (by decide +kernel) ?_
      refine j_newaB (kd := 12) (N := 60) (ty := .byte) K dX1_init_2_177 rfl rfl (fun _ _ h => h) rfl q287 (by decide +kernel) (by decide +kernel) rfl (fun _ => rfl) (fun w36 => ?_)
      refine j_putR (k := 20) K dX1_init_2_179 rfl rfl q202 rfl (Or.inr ⟨rfl, hnm, rfl⟩) rfl (Or.inr ⟨_, rfl⟩) rfl (by decide) rfl (fun h => by cases h) rfl ?_
      refine j_aload_n K dX1_init_2_182 rfl ?_
      refine j_sipush (x := 500) K dX1_init_2_183 (by decide +kernel) ?_
      refine j_newaB (kd := 10) (N := 500) (ty := .int) K dX1_init_2_186 rfl rfl (fun _ _ h => h) rfl q286 (by decide +kernel) (by decide +kernel) rfl (fun _ => rfl) (fun w37 => ?_)
      refine j_putR (k := 22) K dX1_init_2_188 rfl rfl q205 rfl (Or.inr ⟨rfl, hnm, rfl⟩) rfl (Or.inr ⟨_, rfl⟩) rfl (by decide) rfl (fun h => by cases h) rfl ?_
      refine j_aload_n K dX1_init_2_191 rfl ?_
      refine j_sipush (x := 500) K dX1_init_2_192 (by decide +kernel) ?_
      refine j_newaB (kd := 10) (N := 500) (ty := .int) K dX1_init_2_195 rfl rfl (fun _ _ h => h) rfl q286 (by decide +kernel) (by decide +kernel) rfl (fun _ => rfl) (fun w38 => ?_)
      refine j_putR (k := 23) K dX1_init_2_197 rfl rfl q206 rfl (Or.inr ⟨rfl, hnm, rfl⟩) rfl (Or.inr ⟨_, rfl⟩) rfl (by decide) rfl (fun h => by cases h) rfl ?_
      refine j_aload_n K dX1_init_2_200 rfl ?_
      refine j_sipush (x := 500) K dX1_init_2_201 (by decide +kernel) ?_
      refine j_newaB (kd := 10) (N := 500) (ty := .int) K dX1_init_2_204 rfl rfl (fun _ _ h => h) rfl q286 (by decide +kernel) (by decide +kernel) rfl (fun _ => rfl) (fun w39 => ?_)
      refine j_putR (k := 24) K dX1_init_2_206 rfl rfl q207 rfl (Or.inr ⟨rfl, hnm, rfl⟩) rfl (Or.inr ⟨_, rfl⟩) rfl (by decide) rfl (fun h => by cases h) rfl ?_
      refine j_aload_n K dX1_init_2_209 rfl ?_
      refine j_sipush (x := 500) K dX1_init_2_210 (by decide +kernel) ?_
      refine j_newaB (kd := 10) (N := 500) (ty := .int) K dX1_init_2_213 rfl rfl (fun _ _ h => h) rfl q286 (by decide +kernel) (by decide +kernel) rfl (fun _ => rfl) (fun w40 => ?_)
      refine j_putR (k := 25) K dX1_init_2_215 rfl rfl q208 rfl (Or.inr ⟨rfl, hnm, rfl⟩) rfl (Or.inr ⟨_, rfl⟩) rfl (by decide) rfl (fun h => by cases h) rfl ?_
      refine j_aload_n K dX1_init_2_218 rfl ?_
      refine j_sipush (x := 500) K dX1_init_2_219 (by decide +kernel) ?_
      refine j_newaB (kd := 10) (N := 500) (ty := .int) K dX1_init_2_222 rfl rfl (fun _ _ h => h) rfl q286 (by decide +kernel) (by decide +kernel) rfl (fun _ => rfl) (fun w41 => ?_)
      refine j_putR (k := 26) K dX1_init_2_224 rfl rfl q209 rfl (Or.inr ⟨rfl, hnm, rfl⟩) rfl (Or.inr ⟨_, rfl⟩) rfl (by decide) rfl (fun h => by cases h) rfl ?_
      refine j_aload_n K dX1_init_2_227 rfl ?_
      refine j_sipush (x := 500) K dX1_init_2_228 (by decide +kernel) ?_
      refine j_newaB (kd := 11) (N := 500) (ty := .boolean) K dX1_init_2_231 rfl rfl (fun _ _ h => h) rfl q288 (by decide +kernel) (by decide +kernel) rfl (fun _ => rfl) (fun w42 => ?_)
      refine j_putR (k := 27) K dX1_init_2_233 rfl rfl q210 rfl (Or.inr ⟨rfl, hnm, rfl⟩) rfl (Or.inr ⟨_, rfl⟩) rfl (by decide) rfl (fun h => by cases h) rfl ?_
      refine j_aload_n K dX1_init_2_236 rfl ?_
      refine j_sipush (x := 500) K dX1_init_2_237 (by decide +kernel) ?_
      refine j_newaB (kd := 11) (N := 500) (ty := .boolean) K dX1_init_2_240 rfl rfl (fun _ _ h => h) rfl q288 (by decide +kernel) (by decide +kernel) rfl (fun _ => rfl) (fun w43 => ?_)
      refine j_putR (k := 28) K dX1_init_2_242 rfl rfl q211 rfl (Or.inr ⟨rfl, hnm, rfl⟩) rfl (Or.inr ⟨_, rfl⟩) rfl (by decide) rfl (fun h => by cases h) rfl ?_
      refine j_aload_n K dX1_init_2_245 rfl ?_
      refine j_iconst (x := (-1)) K dX1_init_2_246 rfl ?_
      refine j_putI (k := 30) K dX1_init_2_247 rfl rfl q213 rfl (Or.inl rfl) rfl rfl rfl rfl ?_
      refine j_aload_n K dX1_init_2_250 rfl ?_
      refine j_iload_n K dX1_init_2_251 rfl ?_
      refine j_putI (k := 8) K dX1_init_2_252 rfl rfl q189 rfl (Or.inl rfl) rfl rfl rfl rfl ?_
      exact j_vret K hr dX1_init_2_255
    · refine j_aload_n K dX1_init_2_130 rfl ?_
      refine j_getR (k := 3) K dX1_init_2_131 rfl rfl rfl q184 rfl rfl (by decide) rfl ?_
      refine j_iload_n K dX1_init_2_134 rfl ?_
      refine j_newB (kd := 2) (n := 6) K dX1_init_2_135 rfl rfl q130 q155 q94 (fun w44 => ?_)
      refine j_dup K dX1_init_2_138 rfl ?_
      refine j_callIN _ K (sim0_X2_init hG hl d (gN w) w44) dX1_init_2_139 q156 q157 q94 q158 rfl pm_X2_init.2 rfl rfl rfl rfl rfl (fun r45 _ => ?_)
      refine j_nn (fun a46 ha46 => ?_)
      refine j_ib (fun hi47 => ?_)
      refine j_aas K dX1_init_2_142 rfl rfl (fun _ => rfl) rfl rfl ha46 gLen hi47 ?_
      refine j_iinc (y := 1) K dX1_init_2_143 rfl rfl rfl rfl ?_
      refine j_goto 125 K dX1_init_2_146 (by decide) ?_
      exact ih _ _ _ _ _
theorem sim0_X1_init_2 {G : Gx} (hG : GW G) {l : Launch} (hl : l.stackTraces = false) (d : Nat) (p1 : Int32) (w : Wd) (fp1 : Bool) : Mt G false l yX1_init_2 (ws_ yX1_init_2 cX1_init_2 3 (none)) d (rrV G pU) [aR 1 (some 8), aB fp1 p1] w (f_X1_init_2 d p1 w) := by
  refine Mt.of (own := "IntervalTree") hG hl (by decide +kernel) rfl rfl ?_
  intro M hM hr hnm hxt hnd K
  subst hM
  cases d with
  | zero => exact j_none
  | succ d =>
    refine j_aload_n K dX1_init_2_0 rfl ?_
    refine j_objI K dX1_init_2_1 q121 q122 q123 (by omega) rfl rfl ?_
    refine j_aload_n K dX1_init_2_4 rfl ?_
    refine j_sipush (x := 500) K dX1_init_2_5 (by decide +kernel) ?_
    refine j_anewB (kd := 14) (N := 500) K dX1_init_2_8 rfl rfl q124 q125 (by decide +kernel) (by decide +kernel) rfl (fun _ => show (4 : Nat) ≠ 99 from by decide) (fun w1 => ?_)
    refine j_putR (k := 0) K dX1_init_2_11 rfl rfl q179 rfl (Or.inr ⟨rfl, hnm, rfl⟩) rfl (Or.inr ⟨_, rfl⟩) rfl (by decide) rfl (fun h => by cases h) rfl ?_
    refine j_aload_n K dX1_init_2_14 rfl ?_
    refine j_bipush (x := 8) K dX1_init_2_15 (by decide +kernel) ?_
    refine j_anewB (kd := 15) (N := 8) K dX1_init_2_17 rfl rfl q126 q127 (by decide +kernel) (by decide +kernel) rfl (fun _ => show (50 : Nat) ≠ 99 from by decide) (fun w2 => ?_)
    refine j_putR (k := 1) K dX1_init_2_20 rfl rfl q180 rfl (Or.inr ⟨rfl, hnm, rfl⟩) rfl (Or.inr ⟨_, rfl⟩) rfl (by decide) rfl (fun h => by cases h) rfl ?_
    refine j_aload_n K dX1_init_2_23 rfl ?_
    refine j_iconst (x := 4) K dX1_init_2_24 rfl ?_
    refine j_anewB (kd := 16) (N := 4) K dX1_init_2_25 rfl rfl q128 q129 (by decide +kernel) (by decide +kernel) rfl (fun _ => show (51 : Nat) ≠ 99 from by decide) (fun w3 => ?_)
    refine j_putR (k := 2) K dX1_init_2_28 rfl rfl q182 rfl (Or.inr ⟨rfl, hnm, rfl⟩) rfl (Or.inr ⟨_, rfl⟩) rfl (by decide) rfl (fun h => by cases h) rfl ?_
    refine j_aload_n K dX1_init_2_31 rfl ?_
    refine j_iconst (x := 4) K dX1_init_2_32 rfl ?_
    refine j_anewB (kd := 17) (N := 4) K dX1_init_2_33 rfl rfl q130 q131 (by decide +kernel) (by decide +kernel) rfl (fun _ => show (2 : Nat) ≠ 99 from by decide) (fun w4 => ?_)
    refine j_putR (k := 3) K dX1_init_2_36 rfl rfl q184 rfl (Or.inr ⟨rfl, hnm, rfl⟩) rfl (Or.inr ⟨_, rfl⟩) rfl (by decide) rfl (fun h => by cases h) rfl ?_
    refine j_aload_n K dX1_init_2_39 rfl ?_
    refine j_getR (k := 2) K dX1_init_2_40 rfl rfl rfl q182 rfl rfl (by decide) rfl ?_
    refine j_iconstZ K dX1_init_2_43 rfl (Or.inl rfl) ?_
    refine j_if (fun hd5 => ?_)
    refine j_if (fun hk6 => ?_)
    refine j_indyC (kd := 20) (t := 51) K hnd (by decide) (by decide) rfl (by decide) dX1_init_2_44 rfl hk6 hd5 rfl ?_
    refine j_nn (fun a7 ha7 => ?_)
    refine j_ib (fun hi8 => ?_)
    refine j_aasI K dX1_init_2_49 (by decide) (by decide) rfl (fun _ => rfl) rfl ha7 gLen hi8 ?_
    refine j_aload_n K dX1_init_2_50 rfl ?_
    refine j_getR (k := 2) K dX1_init_2_51 rfl rfl rfl q182 rfl rfl (by decide) rfl ?_
    refine j_iconstZ K dX1_init_2_54 rfl (Or.inr rfl) ?_
    refine j_if (fun hd9 => ?_)
    refine j_if (fun hk10 => ?_)
    refine j_indyC (kd := 21) (t := 51) K hnd (by decide) (by decide) rfl (by decide) dX1_init_2_55 rfl hk10 hd9 rfl ?_
    refine j_nn (fun a11 ha11 => ?_)
    refine j_ib (fun hi12 => ?_)
    refine j_aasI K dX1_init_2_60 (by decide) (by decide) rfl (fun _ => rfl) rfl ha11 gLen hi12 ?_
    refine j_aload_n K dX1_init_2_61 rfl ?_
    refine j_getR (k := 2) K dX1_init_2_62 rfl rfl rfl q182 rfl rfl (by decide) rfl ?_
    refine j_iconst (x := 2) K dX1_init_2_65 rfl ?_
    refine j_aload_n K dX1_init_2_66 rfl ?_
    refine j_if (fun hd13 => ?_)
    refine j_indyM (kd := 22) (t := 51) [aR 1 (some 8)] K hnd (by decide) (by decide) rfl rfl rfl dX1_init_2_67 rfl rfl (by decide) rfl hd13 rfl rfl (fun w14 => ?_)
    refine j_nn (fun a15 ha15 => ?_)
    refine j_ib (fun hi16 => ?_)
    refine j_aasI K dX1_init_2_72 (by decide) (by decide) rfl (fun _ => rfl) rfl ha15 gLen hi16 ?_
    refine j_aload_n K dX1_init_2_73 rfl ?_
    refine j_getR (k := 2) K dX1_init_2_74 rfl rfl rfl q182 rfl rfl (by decide) rfl ?_
    refine j_iconst (x := 3) K dX1_init_2_77 rfl ?_
    refine j_if (fun hd17 => ?_)
    refine j_if (fun hk18 => ?_)
    refine j_indyC (kd := 23) (t := 51) K hnd (by decide) (by decide) rfl (by decide) dX1_init_2_78 rfl hk18 hd17 rfl ?_
    refine j_nn (fun a19 ha19 => ?_)
    refine j_ib (fun hi20 => ?_)
    refine j_aasI K dX1_init_2_83 (by decide) (by decide) rfl (fun _ => rfl) rfl ha19 gLen hi20 ?_
    refine j_aload_n K dX1_init_2_84 rfl ?_
    refine j_getR (k := 1) K dX1_init_2_85 rfl rfl rfl q180 rfl rfl (by decide) rfl ?_
    refine j_iconstZ K dX1_init_2_88 rfl (Or.inl rfl) ?_
    refine j_if (fun hd21 => ?_)
    refine j_if (fun hk22 => ?_)
    refine j_indyC (kd := 24) (t := 50) K hnd (by decide) (by decide) rfl (by decide) dX1_init_2_89 rfl hk22 hd21 rfl ?_
    refine j_nn (fun a23 ha23 => ?_)
    refine j_ib (fun hi24 => ?_)
    refine j_aasI K dX1_init_2_94 (by decide) (by decide) rfl (fun _ => rfl) rfl ha23 gLen hi24 ?_
    refine j_aload_n K dX1_init_2_95 rfl ?_
    refine j_getR (k := 1) K dX1_init_2_96 rfl rfl rfl q180 rfl rfl (by decide) rfl ?_
    refine j_iconstZ K dX1_init_2_99 rfl (Or.inr rfl) ?_
    refine j_if (fun hd25 => ?_)
    refine j_if (fun hk26 => ?_)
    refine j_indyC (kd := 25) (t := 50) K hnd (by decide) (by decide) rfl (by decide) dX1_init_2_100 rfl hk26 hd25 rfl ?_
    refine j_nn (fun a27 ha27 => ?_)
    refine j_ib (fun hi28 => ?_)
    refine j_aasI K dX1_init_2_105 (by decide) (by decide) rfl (fun _ => rfl) rfl ha27 gLen hi28 ?_
    refine j_aload_n K dX1_init_2_106 rfl ?_
    refine j_getR (k := 1) K dX1_init_2_107 rfl rfl rfl q180 rfl rfl (by decide) rfl ?_
    refine j_iconst (x := 2) K dX1_init_2_110 rfl ?_
    refine j_aload_n K dX1_init_2_111 rfl ?_
    refine j_if (fun hd29 => ?_)
    refine j_indyM (kd := 26) (t := 50) [aR 1 (some 8)] K hnd (by decide) (by decide) rfl rfl rfl dX1_init_2_112 rfl rfl (by decide) rfl hd29 rfl rfl (fun w30 => ?_)
    refine j_nn (fun a31 ha31 => ?_)
    refine j_ib (fun hi32 => ?_)
    refine j_aasI K dX1_init_2_117 (by decide) (by decide) rfl (fun _ => rfl) rfl ha31 gLen hi32 ?_
    refine j_aload_n K dX1_init_2_118 rfl ?_
    refine j_iconst (x := 3) K dX1_init_2_119 rfl ?_
    refine j_putI (k := 11) K dX1_init_2_120 rfl rfl q192 rfl (Or.inl rfl) rfl rfl rfl rfl ?_
    refine j_iconstZ K dX1_init_2_123 rfl (Or.inl rfl) ?_
    refine j_istore_n K dX1_init_2_124 rfl rfl ?_
    exact sb0_X1_init_2_125 hG hl K hr hnm hxt hnd FU _ _ _ _ _

theorem pm_X1_init : yX1_init.cls = RX1 ∧ yX1_init.cls ≠ "java/lang/invoke/MethodHandle" ∧ yX1_init.cls ≠ "java/lang/invoke/VarHandle" ∧ (parseMethodDescriptor yX1_init.desc).map (fun d => d.parameters.length) = some 0 := by decide +kernel
def f_X1_init (d : Nat) (w : Wd) : Option (Wd × Unit) :=
  match d with
  | 0 => none
  | d + 1 =>
    (f_X1_init_2 d 50 w).bind fun r1 =>
    some (r1.1, ())
theorem sim0_X1_init {G : Gx} (hG : GW G) {l : Launch} (hl : l.stackTraces = false) (d : Nat) (w : Wd) : Mt G false l yX1_init (ws_ yX1_init cX1_init 1 (none)) d (rrV G pU) [aR 1 (some 8)] w (f_X1_init d w) := by
  refine Mt.of (own := "IntervalTree") hG hl (by decide +kernel) rfl rfl ?_
  intro M hM hr hnm hxt hnd K
  subst hM
  cases d with
  | zero => exact j_none
  | succ d =>
    refine j_aload_n K dX1_init_0 rfl ?_
    refine j_bipush (x := 50) K dX1_init_1 (by decide +kernel) ?_
    refine j_callI _ K (sim0_X1_init_2 hG hl d 50 w false) dX1_init_3 q118 q119 q93 q120 rfl pm_X1_init_2.2 rfl rfl rfl rfl rfl (fun r1 _ => ?_)
    exact j_vret K hr dX1_init_6

theorem pm_X1_lambda_new_0 : yX1_lambda_new_0.cls = RX1 ∧ yX1_lambda_new_0.cls ≠ "java/lang/invoke/MethodHandle" ∧ yX1_lambda_new_0.cls ≠ "java/lang/invoke/VarHandle" ∧ (parseMethodDescriptor yX1_lambda_new_0.desc).map (fun d => d.parameters.length) = some 1 := by decide +kernel
def f_X1_lambda_new_0 (d : Nat) (p1 : Option Nat) (w : Wd) : Option (Wd × Int32) :=
  match d with
  | 0 => none
  | d + 1 =>
    (p1).bind fun a1 =>
    some (w, (gI w a1 1))
theorem sim_X1_lambda_new_0 {G : Gx} (hG : GW G) {l : Launch} (hl : l.stackTraces = false) (d : Nat) (p1 : Option Nat) (w : Wd) : Mt G true l yX1_lambda_new_0 (ws_ yX1_lambda_new_0 cX1_lambda_new_0 1 (some .int)) d (rrV G pI) [aR 4 p1] w (f_X1_lambda_new_0 d p1 w) := by
  refine Mt.of (own := "IntervalTree") hG hl (by decide +kernel) rfl rfl ?_
  intro M hM hr hnm hxt hnd K
  subst hM
  cases d with
  | zero => exact j_none
  | succ d =>
    refine j_aload_n K dX1_lambda_new_0_0 rfl ?_
    refine j_nn (fun a1 ha1 => ?_)
    refine j_getI (k := 1) K dX1_lambda_new_0_1 rfl rfl rfl q543 rfl rfl ha1 ?_
    exact j_iret K hr dX1_lambda_new_0_4

theorem pm_X1_lambda_new_1 : yX1_lambda_new_1.cls = RX1 ∧ yX1_lambda_new_1.cls ≠ "java/lang/invoke/MethodHandle" ∧ yX1_lambda_new_1.cls ≠ "java/lang/invoke/VarHandle" ∧ (parseMethodDescriptor yX1_lambda_new_1.desc).map (fun d => d.parameters.length) = some 1 := by decide +kernel
def f_X1_lambda_new_1 (d : Nat) (p1 : Option Nat) (w : Wd) : Option (Wd × Int32) :=
  match d with
  | 0 => none
  | d + 1 =>
    (p1).bind fun a1 =>
    some (w, (gI w a1 2))
theorem sim_X1_lambda_new_1 {G : Gx} (hG : GW G) {l : Launch} (hl : l.stackTraces = false) (d : Nat) (p1 : Option Nat) (w : Wd) : Mt G true l yX1_lambda_new_1 (ws_ yX1_lambda_new_1 cX1_lambda_new_1 1 (some .int)) d (rrV G pI) [aR 4 p1] w (f_X1_lambda_new_1 d p1 w) := by
  refine Mt.of (own := "IntervalTree") hG hl (by decide +kernel) rfl rfl ?_
  intro M hM hr hnm hxt hnd K
  subst hM
  cases d with
  | zero => exact j_none
  | succ d =>
    refine j_aload_n K dX1_lambda_new_1_0 rfl ?_
    refine j_nn (fun a1 ha1 => ?_)
    refine j_getI (k := 2) K dX1_lambda_new_1_1 rfl rfl rfl q545 rfl rfl ha1 ?_
    exact j_iret K hr dX1_lambda_new_1_4

theorem pm_X1_weightOf : yX1_weightOf.cls = RX1 ∧ yX1_weightOf.cls ≠ "java/lang/invoke/MethodHandle" ∧ yX1_weightOf.cls ≠ "java/lang/invoke/VarHandle" ∧ (parseMethodDescriptor yX1_weightOf.desc).map (fun d => d.parameters.length) = some 1 := by decide +kernel
def b_X1_weightOf_10 (d : Nat) : Nat → Int32 → Option Nat → Wd → Option (Wd × Int32)
  | 0, _, _, _ => none
  | n + 1, x2, x3, w =>
    (x3).elim
      (some (w, x2))
      fun a2 =>
      b_X1_weightOf_10 d n (x2 + (gI w a2 4)) (gR w a2 7) w
def f_X1_weightOf (d : Nat) (p1 : Option Nat) (w : Wd) : Option (Wd × Int32) :=
  match d with
  | 0 => none
  | d + 1 =>
    (p1).bind fun a1 =>
    b_X1_weightOf_10 d FU (gI w a1 3) (gR w a1 7) w
theorem sb_X1_weightOf_10 {G : Gx} (hG : GW G) {M : Mx} (hl : (mL M).stackTraces = false) {w0 : Wd} {d : Nat} (K : Cx (G, true, M, 4, w0) cX1_weightOf "IntervalTree" (d + 1)) (hr : (mH M).sig.returnType = some .int) (hnm : (mH M).name = yX1_weightOf.name) (hxt : ∀ x ∈ (mC M).exceptionTable.toList, False) (hnd : (mS M).methodNamed? yX1_weightOf = some (mM M)) : ∀ (n : Nat), ∀ (x2 : Int32) (x3 : Option Nat) (w : Wd) (fx2 : Bool), Jf (G, true, M, 4, w0) (rrV G pI) (b_X1_weightOf_10 d n x2 x3 w) w 10 [none, none, some (aB fx2 x2), some (aR 4 x3)] [] := by
  intro n
  induction n with
  | zero => intros; exact j_none
  | succ n ih =>
    intro x2 x3 w fx2
    refine j_aload_n K dX1_weightOf_10 rfl ?_
    refine j_ifnull 29 K dX1_weightOf_11 (by decide) (fun _ => ?_) (fun a2 ha2 => ?_)
    · refine j_iload_n K dX1_weightOf_29 rfl ?_
      exact j_iret K hr dX1_weightOf_30
    · refine j_iload_n K dX1_weightOf_14 rfl ?_
      refine j_aload_n K dX1_weightOf_15 rfl ?_
      refine j_getI (k := 4) K dX1_weightOf_16 rfl rfl rfl q549 rfl rfl ha2 ?_
      refine j_iadd K dX1_weightOf_19 ?_
      refine j_istore_n K dX1_weightOf_20 rfl rfl ?_
      refine j_aload_n K dX1_weightOf_21 rfl ?_
      refine j_getR (k := 7) K dX1_weightOf_22 rfl rfl rfl q553 rfl rfl (by decide) ha2 ?_
      refine j_astore_n K dX1_weightOf_25 rfl rfl ?_
      refine j_goto 10 K dX1_weightOf_26 (by decide) ?_
      exact j_wk (ih _ _ _ _) ⟨rfl, rfl, trivial⟩
theorem sim_X1_weightOf {G : Gx} (hG : GW G) {l : Launch} (hl : l.stackTraces = false) (d : Nat) (p1 : Option Nat) (w : Wd) : Mt G true l yX1_weightOf (ws_ yX1_weightOf cX1_weightOf 4 (some .int)) d (rrV G pI) [aR 1 (some 8), aR 4 p1] w (f_X1_weightOf d p1 w) := by
  refine Mt.of (own := "IntervalTree") hG hl (by decide +kernel) rfl rfl ?_
  intro M hM hr hnm hxt hnd K
  subst hM
  cases d with
  | zero => exact j_none
  | succ d =>
    refine j_aload_n K dX1_weightOf_0 rfl ?_
    refine j_nn (fun a1 ha1 => ?_)
    refine j_getI (k := 3) K dX1_weightOf_1 rfl rfl rfl q547 rfl rfl ha1 ?_
    refine j_istore_n K dX1_weightOf_4 rfl rfl ?_
    refine j_aload_n K dX1_weightOf_5 rfl ?_
    refine j_getR (k := 7) K dX1_weightOf_6 rfl rfl rfl q553 rfl rfl (by decide) ha1 ?_
    refine j_astore_n K dX1_weightOf_9 rfl rfl ?_
    exact j_wk (sb_X1_weightOf_10 hG hl K hr hnm hxt hnd FU _ _ _ _) ⟨rfl, rfl, trivial⟩

theorem pm_X1_lambda_new_2 : yX1_lambda_new_2.cls = RX1 ∧ yX1_lambda_new_2.cls ≠ "java/lang/invoke/MethodHandle" ∧ yX1_lambda_new_2.cls ≠ "java/lang/invoke/VarHandle" ∧ (parseMethodDescriptor yX1_lambda_new_2.desc).map (fun d => d.parameters.length) = some 1 := by decide +kernel
def f_X1_lambda_new_2 (d : Nat) (p1 : Option Nat) (w : Wd) : Option (Wd × Int32) :=
  match d with
  | 0 => none
  | d + 1 =>
    (p1).bind fun a1 =>
    some (w, ((gI w a1 2) - (gI w a1 1)))
theorem sim_X1_lambda_new_2 {G : Gx} (hG : GW G) {l : Launch} (hl : l.stackTraces = false) (d : Nat) (p1 : Option Nat) (w : Wd) : Mt G true l yX1_lambda_new_2 (ws_ yX1_lambda_new_2 cX1_lambda_new_2 1 (some .int)) d (rrV G pI) [aR 4 p1] w (f_X1_lambda_new_2 d p1 w) := by
  refine Mt.of (own := "IntervalTree") hG hl (by decide +kernel) rfl rfl ?_
  intro M hM hr hnm hxt hnd K
  subst hM
  cases d with
  | zero => exact j_none
  | succ d =>
    refine j_aload_n K dX1_lambda_new_2_0 rfl ?_
    refine j_nn (fun a1 ha1 => ?_)
    refine j_getI (k := 2) K dX1_lambda_new_2_1 rfl rfl rfl q545 rfl rfl ha1 ?_
    refine j_aload_n K dX1_lambda_new_2_4 rfl ?_
    refine j_getI (k := 1) K dX1_lambda_new_2_5 rfl rfl rfl q543 rfl rfl ha1 ?_
    refine j_isub K dX1_lambda_new_2_8 ?_
    exact j_iret K hr dX1_lambda_new_2_9

theorem pm_X1_lambda_new_3 : yX1_lambda_new_3.cls = RX1 ∧ yX1_lambda_new_3.cls ≠ "java/lang/invoke/MethodHandle" ∧ yX1_lambda_new_3.cls ≠ "java/lang/invoke/VarHandle" ∧ (parseMethodDescriptor yX1_lambda_new_3.desc).map (fun d => d.parameters.length) = some 1 := by decide +kernel
def f_X1_lambda_new_3 (d : Nat) (p1 : Option Nat) (w : Wd) : Option (Wd × Int32) :=
  match d with
  | 0 => none
  | d + 1 =>
    some (w, 1)
theorem sim_X1_lambda_new_3 {G : Gx} (hG : GW G) {l : Launch} (hl : l.stackTraces = false) (d : Nat) (p1 : Option Nat) (w : Wd) : Mt G true l yX1_lambda_new_3 (ws_ yX1_lambda_new_3 cX1_lambda_new_3 1 (some .boolean)) d (rrV G pZ) [aR 4 p1] w (f_X1_lambda_new_3 d p1 w) := by
  refine Mt.of (own := "IntervalTree") hG hl (by decide +kernel) rfl rfl ?_
  intro M hM hr hnm hxt hnd K
  subst hM
  cases d with
  | zero => exact j_none
  | succ d =>
    refine j_iconstZ K dX1_lambda_new_3_0 rfl (Or.inr rfl) ?_
    exact j_zret K hr dX1_lambda_new_3_1

theorem pm_X1_isPoint : yX1_isPoint.cls = RX1 ∧ yX1_isPoint.cls ≠ "java/lang/invoke/MethodHandle" ∧ yX1_isPoint.cls ≠ "java/lang/invoke/VarHandle" ∧ (parseMethodDescriptor yX1_isPoint.desc).map (fun d => d.parameters.length) = some 1 := by decide +kernel
def f_X1_isPoint (d : Nat) (p1 : Option Nat) (w : Wd) : Option (Wd × Int32) :=
  match d with
  | 0 => none
  | d + 1 =>
    (p1).bind fun a1 =>
    if (gI w a1 1) = (gI w a1 2) then
      some (w, 1)
    else
      some (w, 0)
theorem sim_X1_isPoint {G : Gx} (hG : GW G) {l : Launch} (hl : l.stackTraces = false) (d : Nat) (p1 : Option Nat) (w : Wd) : Mt G true l yX1_isPoint (ws_ yX1_isPoint cX1_isPoint 1 (some .boolean)) d (rrV G pZ) [aR 4 p1] w (f_X1_isPoint d p1 w) := by
  refine Mt.of (own := "IntervalTree") hG hl (by decide +kernel) rfl rfl ?_
  intro M hM hr hnm hxt hnd K
  subst hM
  cases d with
  | zero => exact j_none
  | succ d =>
    refine j_aload_n K dX1_isPoint_0 rfl ?_
    refine j_nn (fun a1 ha1 => ?_)
    refine j_getI (k := 1) K dX1_isPoint_1 rfl rfl rfl q543 rfl rfl ha1 ?_
    refine j_aload_n K dX1_isPoint_4 rfl ?_
    refine j_getI (k := 2) K dX1_isPoint_5 rfl rfl rfl q545 rfl rfl ha1 ?_
    refine j_icmp_ne 15 K dX1_isPoint_8 (by decide) ?_ ?_
    · refine j_iconstZ K dX1_isPoint_15 rfl (Or.inl rfl) ?_
      exact j_zret K hr dX1_isPoint_16
    · refine j_iconstZ K dX1_isPoint_11 rfl (Or.inr rfl) ?_
      refine j_goto 16 K dX1_isPoint_12 (by decide) ?_
      exact j_zret K hr dX1_isPoint_16

theorem pm_X4_overlaps : yX4_overlaps.cls = RX4 ∧ yX4_overlaps.cls ≠ "java/lang/invoke/MethodHandle" ∧ yX4_overlaps.cls ≠ "java/lang/invoke/VarHandle" ∧ (parseMethodDescriptor yX4_overlaps.desc).map (fun d => d.parameters.length) = some 2 := by decide +kernel
def f_X4_overlaps (d : Nat) (a0 : Nat) (p1 : Int32) (p2 : Int32) (w : Wd) : Option (Wd × Int32) :=
  match d with
  | 0 => none
  | d + 1 =>
    if p2 < (gI w a0 1) then
      some (w, 0)
    else
      if (gI w a0 2) < p1 then
        some (w, 0)
      else
        some (w, 1)
theorem sim_X4_overlaps {G : Gx} (hG : GW G) {l : Launch} (hl : l.stackTraces = false) (d : Nat) (a0 : Nat) (p1 : Int32) (p2 : Int32) (w : Wd) (fp1 : Bool) (fp2 : Bool) : Mt G true l yX4_overlaps (ws_ yX4_overlaps cX4_overlaps 3 (some .boolean)) d (rrV G pZ) [aR 4 (some a0), aB fp1 p1, aB fp2 p2] w (f_X4_overlaps d a0 p1 p2 w) := by
  refine Mt.of (own := "IntervalTree$Node") hG hl (by decide +kernel) rfl rfl ?_
  intro M hM hr hnm hxt hnd K
  subst hM
  cases d with
  | zero => exact j_none
  | succ d =>
    refine j_aload_n K dX4_overlaps_0 rfl ?_
    refine j_getI (k := 1) K dX4_overlaps_1 rfl rfl rfl q542 rfl rfl rfl ?_
    refine j_iload_n K dX4_overlaps_4 rfl ?_
    refine j_icmp_gt 20 K dX4_overlaps_5 (by decide) ?_ ?_
    · refine j_iconstZ K dX4_overlaps_20 rfl (Or.inl rfl) ?_
      exact j_zret K hr dX4_overlaps_21
    · refine j_aload_n K dX4_overlaps_8 rfl ?_
      refine j_getI (k := 2) K dX4_overlaps_9 rfl rfl rfl q544 rfl rfl rfl ?_
      refine j_iload_n K dX4_overlaps_12 rfl ?_
      refine j_icmp_lt 20 K dX4_overlaps_13 (by decide) ?_ ?_
      · refine j_iconstZ K dX4_overlaps_20 rfl (Or.inl rfl) ?_
        exact j_zret K hr dX4_overlaps_21
      · refine j_iconstZ K dX4_overlaps_16 rfl (Or.inr rfl) ?_
        refine j_goto 21 K dX4_overlaps_17 (by decide) ?_
        exact j_zret K hr dX4_overlaps_21

theorem pm_X1_stabbedBy : yX1_stabbedBy.cls = RX1 ∧ yX1_stabbedBy.cls ≠ "java/lang/invoke/MethodHandle" ∧ yX1_stabbedBy.cls ≠ "java/lang/invoke/VarHandle" ∧ (parseMethodDescriptor yX1_stabbedBy.desc).map (fun d => d.parameters.length) = some 4 := by decide +kernel
def b_X1_stabbedBy_46 (d : Nat) (g_X1_stabbedBy : Option Nat → Int32 → Int32 → Int32 → Wd → Option (Wd × Int32)) (x0 : Option Nat) (x1 : Int32) (x2 : Int32) (x3 : Int32) (s0 : Int32) (w : Wd) : Option (Wd × Int32) :=
  (x0).bind fun a2 =>
  (g_X1_stabbedBy (gR w a2 8) x1 x2 (x3 - s0) w).bind fun r3 =>
  if (gI r3.1 a2 1) ≤ x2 then
    (g_X1_stabbedBy (gR r3.1 a2 9) x1 x2 (x3 - (s0 + r3.2)) r3.1).bind fun r4 =>
    some (r4.1, ((s0 + r3.2) + r4.2))
  else
    some (r3.1, (s0 + r3.2))
def b_X1_stabbedBy_45 (d : Nat) (g_X1_stabbedBy : Option Nat → Int32 → Int32 → Int32 → Wd → Option (Wd × Int32)) (x0 : Option Nat) (x1 : Int32) (x2 : Int32) (x3 : Int32) (w : Wd) : Option (Wd × Int32) :=
  b_X1_stabbedBy_46 d g_X1_stabbedBy x0 x1 x2 x3 0 w
def fB_X1_stabbedBy (d : Nat) (g_X1_stabbedBy : Option Nat → Int32 → Int32 → Int32 → Wd → Option (Wd × Int32)) (p1 : Option Nat) (p2 : Int32) (p3 : Int32) (p4 : Int32) (w : Wd) : Option (Wd × Int32) :=
  (p1).elim
    (some (w, 0))
    fun a1 =>
    if (gI w a1 10) = 0 then
      some (w, 0)
    else
      if (gI w a1 11) < p2 then
        some (w, 0)
      else
        if 0 < p4 then
          if (gI w a1 6) = 0 then
            (f_X4_overlaps d a1 p2 p3 w).bind fun r2 =>
            if r2.2 = 0 then
              b_X1_stabbedBy_45 d g_X1_stabbedBy p1 p2 p3 p4 r2.1
            else
              b_X1_stabbedBy_46 d g_X1_stabbedBy p1 p2 p3 p4 1 r2.1
          else
            b_X1_stabbedBy_45 d g_X1_stabbedBy p1 p2 p3 p4 w
        else
          some (w, 0)
theorem sb_X1_stabbedBy_46 {G : Gx} (hG : GW G) {M : Mx} (hl : (mL M).stackTraces = false) {w0 : Wd} {d : Nat} (K : Cx (G, true, M, 5, w0) cX1_stabbedBy "IntervalTree" (d + 1)) (hr : (mH M).sig.returnType = some .int) (hnm : (mH M).name = yX1_stabbedBy.name) (hxt : ∀ x ∈ (mC M).exceptionTable.toList, False) (hnd : (mS M).methodNamed? yX1_stabbedBy = some (mM M)) {g_X1_stabbedBy : Option Nat → Int32 → Int32 → Int32 → Wd → Option (Wd × Int32)} (hg_X1_stabbedBy : ∀ (p1 : Option Nat) (p2 : Int32) (p3 : Int32) (p4 : Int32) (w : Wd) (fp2 : Bool) (fp3 : Bool) (fp4 : Bool), Mt G true (mL M) yX1_stabbedBy (ws_ yX1_stabbedBy cX1_stabbedBy 5 (some .int)) d (rrV G pI) [aR 4 p1, aB fp2 p2, aB fp3 p3, aB fp4 p4] w (g_X1_stabbedBy p1 p2 p3 p4 w)) : ∀ (x0 : Option Nat) (x1 : Int32) (x2 : Int32) (x3 : Int32) (s0 : Int32) (w : Wd) (fx1 : Bool) (fx2 : Bool) (fx3 : Bool), Jf (G, true, M, 5, w0) (rrV G pI) (b_X1_stabbedBy_46 d g_X1_stabbedBy x0 x1 x2 x3 s0 w) w 46 [some (aR 4 x0), some (aB fx1 x1), some (aB fx2 x2), some (aB fx3 x3), none] [aB true s0] := by
  intro x0 x1 x2 x3 s0 w fx1 fx2 fx3
  refine j_istore K dX1_stabbedBy_46 rfl rfl ?_
  refine j_iload K dX1_stabbedBy_48 rfl ?_
  refine j_aload_n K dX1_stabbedBy_50 rfl ?_
  refine j_nn (fun a2 ha2 => ?_)
  refine j_getR (k := 8) K dX1_stabbedBy_51 rfl rfl rfl q555 rfl rfl (by decide) ha2 ?_
  refine j_iload_n K dX1_stabbedBy_54 rfl ?_
  refine j_iload_n K dX1_stabbedBy_55 rfl ?_
  refine j_iload_n K dX1_stabbedBy_56 rfl ?_
  refine j_iload K dX1_stabbedBy_57 rfl ?_
  refine j_isub K dX1_stabbedBy_59 ?_
  refine j_callS _ K (hg_X1_stabbedBy (gR w a2 8) x1 x2 (x3 - s0) w fx1 fx2 false) dX1_stabbedBy_60 q148 q149 q93 q150 pm_X1_stabbedBy.2 rfl rfl rfl rfl (fun r3 _ => ?_)
  refine j_iadd K dX1_stabbedBy_63 ?_
  refine j_istore K dX1_stabbedBy_64 rfl rfl ?_
  refine j_aload_n K dX1_stabbedBy_66 rfl ?_
  refine j_getI (k := 1) K dX1_stabbedBy_67 rfl rfl rfl q543 rfl rfl ha2 ?_
  refine j_iload_n K dX1_stabbedBy_70 rfl ?_
  refine j_icmp_le 79 K dX1_stabbedBy_71 (by decide) ?_ ?_
  · refine j_iload K dX1_stabbedBy_79 rfl ?_
    refine j_aload_n K dX1_stabbedBy_81 rfl ?_
    refine j_getR (k := 9) K dX1_stabbedBy_82 rfl rfl rfl q557 rfl rfl (by decide) ha2 ?_
    refine j_iload_n K dX1_stabbedBy_85 rfl ?_
    refine j_iload_n K dX1_stabbedBy_86 rfl ?_
    refine j_iload_n K dX1_stabbedBy_87 rfl ?_
    refine j_iload K dX1_stabbedBy_88 rfl ?_
    refine j_isub K dX1_stabbedBy_90 ?_
    refine j_callS _ K (hg_X1_stabbedBy (gR r3.1 a2 9) x1 x2 (x3 - (s0 + r3.2)) r3.1 fx1 fx2 false) dX1_stabbedBy_91 q148 q149 q93 q150 pm_X1_stabbedBy.2 rfl rfl rfl rfl (fun r4 _ => ?_)
    refine j_iadd K dX1_stabbedBy_94 ?_
    exact j_iret K hr dX1_stabbedBy_95
  · refine j_iload K dX1_stabbedBy_74 rfl ?_
    refine j_goto 95 K dX1_stabbedBy_76 (by decide) ?_
    exact j_iret K hr dX1_stabbedBy_95
theorem sb_X1_stabbedBy_45 {G : Gx} (hG : GW G) {M : Mx} (hl : (mL M).stackTraces = false) {w0 : Wd} {d : Nat} (K : Cx (G, true, M, 5, w0) cX1_stabbedBy "IntervalTree" (d + 1)) (hr : (mH M).sig.returnType = some .int) (hnm : (mH M).name = yX1_stabbedBy.name) (hxt : ∀ x ∈ (mC M).exceptionTable.toList, False) (hnd : (mS M).methodNamed? yX1_stabbedBy = some (mM M)) {g_X1_stabbedBy : Option Nat → Int32 → Int32 → Int32 → Wd → Option (Wd × Int32)} (hg_X1_stabbedBy : ∀ (p1 : Option Nat) (p2 : Int32) (p3 : Int32) (p4 : Int32) (w : Wd) (fp2 : Bool) (fp3 : Bool) (fp4 : Bool), Mt G true (mL M) yX1_stabbedBy (ws_ yX1_stabbedBy cX1_stabbedBy 5 (some .int)) d (rrV G pI) [aR 4 p1, aB fp2 p2, aB fp3 p3, aB fp4 p4] w (g_X1_stabbedBy p1 p2 p3 p4 w)) : ∀ (x0 : Option Nat) (x1 : Int32) (x2 : Int32) (x3 : Int32) (w : Wd) (fx1 : Bool) (fx2 : Bool) (fx3 : Bool), Jf (G, true, M, 5, w0) (rrV G pI) (b_X1_stabbedBy_45 d g_X1_stabbedBy x0 x1 x2 x3 w) w 45 [some (aR 4 x0), some (aB fx1 x1), some (aB fx2 x2), some (aB fx3 x3), none] [] := by
  intro x0 x1 x2 x3 w fx1 fx2 fx3
  refine j_iconstZ K dX1_stabbedBy_45 rfl (Or.inl rfl) ?_
  exact j_wk (sb_X1_stabbedBy_46 hG hl K hr hnm hxt hnd hg_X1_stabbedBy _ _ _ _ _ _ _ _ _) ⟨rfl, rfl, rfl, rfl, trivial⟩
theorem simB_X1_stabbedBy {G : Gx} (hG : GW G) {l : Launch} (hl : l.stackTraces = false) (d : Nat) {g_X1_stabbedBy : Option Nat → Int32 → Int32 → Int32 → Wd → Option (Wd × Int32)} (hg_X1_stabbedBy : ∀ (p1 : Option Nat) (p2 : Int32) (p3 : Int32) (p4 : Int32) (w : Wd) (fp2 : Bool) (fp3 : Bool) (fp4 : Bool), Mt G true l yX1_stabbedBy (ws_ yX1_stabbedBy cX1_stabbedBy 5 (some .int)) d (rrV G pI) [aR 4 p1, aB fp2 p2, aB fp3 p3, aB fp4 p4] w (g_X1_stabbedBy p1 p2 p3 p4 w)) (p1 : Option Nat) (p2 : Int32) (p3 : Int32) (p4 : Int32) (w : Wd) (fp2 : Bool) (fp3 : Bool) (fp4 : Bool) : Mt G true l yX1_stabbedBy (ws_ yX1_stabbedBy cX1_stabbedBy 5 (some .int)) (d + 1) (rrV G pI) [aR 4 p1, aB fp2 p2, aB fp3 p3, aB fp4 p4] w (fB_X1_stabbedBy d g_X1_stabbedBy p1 p2 p3 p4 w) := by
  refine Mt.of (own := "IntervalTree") hG hl (by decide +kernel) rfl rfl ?_
  intro M hM hr hnm hxt hnd K
  subst hM
  refine j_aload_n K dX1_stabbedBy_0 rfl ?_
  refine j_ifnull 23 K dX1_stabbedBy_1 (by decide) (fun _ => ?_) (fun a1 ha1 => ?_)
  · refine j_iconstZ K dX1_stabbedBy_23 rfl (Or.inl rfl) ?_
    exact j_iret K hr dX1_stabbedBy_24
  · refine j_aload_n K dX1_stabbedBy_4 rfl ?_
    refine j_getI (k := 10) K dX1_stabbedBy_5 rfl rfl rfl q559 rfl rfl ha1 ?_
    refine j_if_eq 23 K dX1_stabbedBy_8 (by decide) ?_ ?_
    · refine j_iconstZ K dX1_stabbedBy_23 rfl (Or.inl rfl) ?_
      exact j_iret K hr dX1_stabbedBy_24
    · refine j_aload_n K dX1_stabbedBy_11 rfl ?_
      refine j_getI (k := 11) K dX1_stabbedBy_12 rfl rfl rfl q561 rfl rfl ha1 ?_
      refine j_iload_n K dX1_stabbedBy_15 rfl ?_
      refine j_icmp_lt 23 K dX1_stabbedBy_16 (by decide) ?_ ?_
      · refine j_iconstZ K dX1_stabbedBy_23 rfl (Or.inl rfl) ?_
        exact j_iret K hr dX1_stabbedBy_24
      · refine j_iload_n K dX1_stabbedBy_19 rfl ?_
        refine j_if_gt 25 K dX1_stabbedBy_20 (by decide) ?_ ?_
        · refine j_aload_n K dX1_stabbedBy_25 rfl ?_
          refine j_getZ (k := 6) K dX1_stabbedBy_26 rfl rfl rfl q552 rfl rfl rfl ha1 ?_
          refine j_if_ne 45 K dX1_stabbedBy_29 (by decide) ?_ ?_
          · exact j_wk (sb_X1_stabbedBy_45 hG hl K hr hnm hxt hnd hg_X1_stabbedBy _ _ _ _ _ _ _ _) ⟨rfl, rfl, rfl, rfl, trivial⟩
          · refine j_aload_n K dX1_stabbedBy_32 rfl ?_
            refine j_iload_n K dX1_stabbedBy_33 rfl ?_
            refine j_iload_n K dX1_stabbedBy_34 rfl ?_
            refine j_callV _ K (sim_X4_overlaps hG hl d a1 p2 p3 w fp2 fp3) dX1_stabbedBy_35 rfl rfl q151 q152 q153 q102 q154 pm_X4_overlaps rfl rfl rfl ha1 rfl (fun r2 _ => ?_)
            refine j_if_eq 45 K dX1_stabbedBy_38 (by decide) ?_ ?_
            · exact j_wk (sb_X1_stabbedBy_45 hG hl K hr hnm hxt hnd hg_X1_stabbedBy _ _ _ _ _ _ _ _) ⟨rfl, rfl, rfl, rfl, trivial⟩
            · refine j_iconstZ K dX1_stabbedBy_41 rfl (Or.inr rfl) ?_
              refine j_goto 46 K dX1_stabbedBy_42 (by decide) ?_
              exact j_wk (sb_X1_stabbedBy_46 hG hl K hr hnm hxt hnd hg_X1_stabbedBy _ _ _ _ _ _ _ _ _) ⟨rfl, rfl, rfl, rfl, trivial⟩
        · refine j_iconstZ K dX1_stabbedBy_23 rfl (Or.inl rfl) ?_
          exact j_iret K hr dX1_stabbedBy_24
def f_X1_stabbedBy : Nat → Option Nat → Int32 → Int32 → Int32 → Wd → Option (Wd × Int32)
  | 0 => fun _ _ _ _ _ => none
  | d + 1 => fB_X1_stabbedBy d (f_X1_stabbedBy d)
theorem sim_X1_stabbedBy {G : Gx} (hG : GW G) {l : Launch} (hl : l.stackTraces = false) : ∀ (d : Nat) (p1 : Option Nat) (p2 : Int32) (p3 : Int32) (p4 : Int32) (w : Wd) (fp2 : Bool) (fp3 : Bool) (fp4 : Bool), Mt G true l yX1_stabbedBy (ws_ yX1_stabbedBy cX1_stabbedBy 5 (some .int)) d (rrV G pI) [aR 4 p1, aB fp2 p2, aB fp3 p3, aB fp4 p4] w (f_X1_stabbedBy d p1 p2 p3 p4 w) := by
  intro d
  induction d with
  | zero => intros; exact fun _ h => by cases h
  | succ d ih => exact simB_X1_stabbedBy hG hl d ih

theorem pm_X1_isCrowded : yX1_isCrowded.cls = RX1 ∧ yX1_isCrowded.cls ≠ "java/lang/invoke/MethodHandle" ∧ yX1_isCrowded.cls ≠ "java/lang/invoke/VarHandle" ∧ (parseMethodDescriptor yX1_isCrowded.desc).map (fun d => d.parameters.length) = some 1 := by decide +kernel
def b_X1_isCrowded_30 (d : Nat) (s0 : Int32) (s1 : Int32) (w : Wd) : Option (Wd × Int32) :=
  if (s0 - s1) ≤ 0 then
    some (w, 0)
  else
    some (w, 1)
def f_X1_isCrowded (d : Nat) (p1 : Option Nat) (w : Wd) : Option (Wd × Int32) :=
  match d with
  | 0 => none
  | d + 1 =>
    (p1).bind fun a1 =>
    (f_X1_stabbedBy d (gR w 8 4) (gI w a1 1) (gI w a1 2) 2 w).bind fun r2 =>
    if (gI r2.1 a1 6) = 0 then
      b_X1_isCrowded_30 d r2.2 1 r2.1
    else
      b_X1_isCrowded_30 d r2.2 0 r2.1
theorem sb_X1_isCrowded_30 {G : Gx} (hG : GW G) {M : Mx} (hl : (mL M).stackTraces = false) {w0 : Wd} {d : Nat} (K : Cx (G, true, M, 3, w0) cX1_isCrowded "IntervalTree" (d + 1)) (hr : (mH M).sig.returnType = some .boolean) (hnm : (mH M).name = yX1_isCrowded.name) (hxt : ∀ x ∈ (mC M).exceptionTable.toList, False) (hnd : (mS M).methodNamed? yX1_isCrowded = some (mM M)) : ∀ (s0 : Int32) (s1 : Int32) (w : Wd) (fs0 : Bool), Jf (G, true, M, 3, w0) (rrV G pZ) (b_X1_isCrowded_30 d s0 s1 w) w 30 [none, none, none] [aB true s1, aB fs0 s0] := by
  intro s0 s1 w fs0
  refine j_isub K dX1_isCrowded_30 ?_
  refine j_if_le 38 K dX1_isCrowded_31 (by decide) ?_ ?_
  · refine j_iconstZ K dX1_isCrowded_38 rfl (Or.inl rfl) ?_
    exact j_zret K hr dX1_isCrowded_39
  · refine j_iconstZ K dX1_isCrowded_34 rfl (Or.inr rfl) ?_
    refine j_goto 39 K dX1_isCrowded_35 (by decide) ?_
    exact j_zret K hr dX1_isCrowded_39
theorem sim_X1_isCrowded {G : Gx} (hG : GW G) {l : Launch} (hl : l.stackTraces = false) (d : Nat) (p1 : Option Nat) (w : Wd) : Mt G true l yX1_isCrowded (ws_ yX1_isCrowded cX1_isCrowded 3 (some .boolean)) d (rrV G pZ) [aR 1 (some 8), aR 4 p1] w (f_X1_isCrowded d p1 w) := by
  refine Mt.of (own := "IntervalTree") hG hl (by decide +kernel) rfl rfl ?_
  intro M hM hr hnm hxt hnd K
  subst hM
  cases d with
  | zero => exact j_none
  | succ d =>
    refine j_aload_n K dX1_isCrowded_0 rfl ?_
    refine j_getR (k := 4) K dX1_isCrowded_1 rfl rfl rfl q185 rfl rfl (by decide) rfl ?_
    refine j_aload_n K dX1_isCrowded_4 rfl ?_
    refine j_nn (fun a1 ha1 => ?_)
    refine j_getI (k := 1) K dX1_isCrowded_5 rfl rfl rfl q543 rfl rfl ha1 ?_
    refine j_aload_n K dX1_isCrowded_8 rfl ?_
    refine j_getI (k := 2) K dX1_isCrowded_9 rfl rfl rfl q545 rfl rfl ha1 ?_
    refine j_iconst (x := 2) K dX1_isCrowded_12 rfl ?_
    refine j_callS _ K (sim_X1_stabbedBy hG hl d (gR w 8 4) (gI w a1 1) (gI w a1 2) 2 w false false false) dX1_isCrowded_13 q148 q149 q93 q150 pm_X1_stabbedBy.2 rfl rfl rfl rfl (fun r2 _ => ?_)
    refine j_istore_n K dX1_isCrowded_16 rfl rfl ?_
    refine j_iload_n K dX1_isCrowded_17 rfl ?_
    refine j_aload_n K dX1_isCrowded_18 rfl ?_
    refine j_getZ (k := 6) K dX1_isCrowded_19 rfl rfl rfl q552 rfl rfl rfl ha1 ?_
    refine j_if_eq 29 K dX1_isCrowded_22 (by decide) ?_ ?_
    · refine j_iconstZ K dX1_isCrowded_29 rfl (Or.inr rfl) ?_
      exact j_wk (sb_X1_isCrowded_30 hG hl K hr hnm hxt hnd _ _ _ _) trivial
    · refine j_iconstZ K dX1_isCrowded_25 rfl (Or.inl rfl) ?_
      refine j_goto 30 K dX1_isCrowded_26 (by decide) ?_
      exact j_wk (sb_X1_isCrowded_30 hG hl K hr hnm hxt hnd _ _ _ _) trivial

theorem pm_X4_add : yX4_add.cls = RX4 ∧ yX4_add.cls ≠ "java/lang/invoke/MethodHandle" ∧ yX4_add.cls ≠ "java/lang/invoke/VarHandle" ∧ (parseMethodDescriptor yX4_add.desc).map (fun d => d.parameters.length) = some 1 := by decide +kernel
def f_X4_add (d : Nat) (a0 : Nat) (p1 : Int32) (w : Wd) : Option (Wd × Unit) :=
  match d with
  | 0 => none
  | d + 1 =>
    some (sI (sI (sI w a0 3 ((gI w a0 3) + p1)) a0 12 ((gI (sI w a0 3 ((gI w a0 3) + p1)) a0 12) + p1)) a0 4 ((gI (sI (sI w a0 3 ((gI w a0 3) + p1)) a0 12 ((gI (sI w a0 3 ((gI w a0 3) + p1)) a0 12) + p1)) a0 4) + p1), ())
theorem sim_X4_add {G : Gx} (hG : GW G) {l : Launch} (hl : l.stackTraces = false) (d : Nat) (a0 : Nat) (p1 : Int32) (w : Wd) (fp1 : Bool) : Mt G true l yX4_add (ws_ yX4_add cX4_add 2 (none)) d (rrV G pU) [aR 4 (some a0), aB fp1 p1] w (f_X4_add d a0 p1 w) := by
  refine Mt.of (own := "IntervalTree$Node") hG hl (by decide +kernel) rfl rfl ?_
  intro M hM hr hnm hxt hnd K
  subst hM
  cases d with
  | zero => exact j_none
  | succ d =>
    refine j_aload_n K dX4_add_0 rfl ?_
    refine j_dup K dX4_add_1 rfl ?_
    refine j_getI (k := 3) K dX4_add_2 rfl rfl rfl q546 rfl rfl rfl ?_
    refine j_iload_n K dX4_add_5 rfl ?_
    refine j_iadd K dX4_add_6 ?_
    refine j_putI (k := 3) K dX4_add_7 rfl rfl q546 rfl (Or.inl rfl) rfl rfl rfl rfl ?_
    refine j_aload_n K dX4_add_10 rfl ?_
    refine j_dup K dX4_add_11 rfl ?_
    refine j_getI (k := 12) K dX4_add_12 rfl rfl rfl q562 rfl rfl rfl ?_
    refine j_iload_n K dX4_add_15 rfl ?_
    refine j_iadd K dX4_add_16 ?_
    refine j_putI (k := 12) K dX4_add_17 rfl rfl q562 rfl (Or.inl rfl) rfl rfl rfl rfl ?_
    refine j_aload_n K dX4_add_20 rfl ?_
    refine j_dup K dX4_add_21 rfl ?_
    refine j_getI (k := 4) K dX4_add_22 rfl rfl rfl q548 rfl rfl rfl ?_
    refine j_iload_n K dX4_add_25 rfl ?_
    refine j_iadd K dX4_add_26 ?_
    refine j_putI (k := 4) K dX4_add_27 rfl rfl q548 rfl (Or.inl rfl) rfl rfl rfl rfl ?_
    exact j_vret K hr dX4_add_30

theorem pm_X4_push : yX4_push.cls = RX4 ∧ yX4_push.cls ≠ "java/lang/invoke/MethodHandle" ∧ yX4_push.cls ≠ "java/lang/invoke/VarHandle" ∧ (parseMethodDescriptor yX4_push.desc).map (fun d => d.parameters.length) = some 0 := by decide +kernel
def b_X4_push_18 (d : Nat) (x0 : Nat) (w : Wd) : Option (Wd × Unit) :=
  (gR w x0 9).elim
    (some (sI w x0 4 0, ()))
    fun a1 =>
    (f_X4_add d a1 (gI w x0 4) w).bind fun r2 =>
    some (sI r2.1 x0 4 0, ())
def f_X4_push (d : Nat) (a0 : Nat) (w : Wd) : Option (Wd × Unit) :=
  match d with
  | 0 => none
  | d + 1 =>
    (gR w a0 8).elim
      (b_X4_push_18 d a0 w)
      fun a3 =>
      (f_X4_add d a3 (gI w a0 4) w).bind fun r4 =>
      b_X4_push_18 d a0 r4.1
theorem sb_X4_push_18 {G : Gx} (hG : GW G) {M : Mx} (hl : (mL M).stackTraces = false) {w0 : Wd} {d : Nat} (K : Cx (G, true, M, 1, w0) cX4_push "IntervalTree$Node" (d + 1)) (hr : (mH M).sig.returnType = none) (hnm : (mH M).name = yX4_push.name) (hxt : ∀ x ∈ (mC M).exceptionTable.toList, False) (hnd : (mS M).methodNamed? yX4_push = some (mM M)) : ∀ (x0 : Nat) (w : Wd), Jf (G, true, M, 1, w0) (rrV G pU) (b_X4_push_18 d x0 w) w 18 [some (aR 4 (some x0))] [] := by
  intro x0 w
  refine j_aload_n K dX4_push_18 rfl ?_
  refine j_getR (k := 9) K dX4_push_19 rfl rfl rfl q556 rfl rfl (by decide) rfl ?_
  refine j_ifnull 36 K dX4_push_22 (by decide) (fun _ => ?_) (fun a1 ha1 => ?_)
  · refine j_aload_n K dX4_push_36 rfl ?_
    refine j_iconstZ K dX4_push_37 rfl (Or.inl rfl) ?_
    refine j_putI (k := 4) K dX4_push_38 rfl rfl q548 rfl (Or.inl rfl) rfl rfl rfl rfl ?_
    exact j_vret K hr dX4_push_41
  · refine j_aload_n K dX4_push_25 rfl ?_
    refine j_getR (k := 9) K dX4_push_26 rfl rfl rfl q556 rfl rfl (by decide) rfl ?_
    refine j_aload_n K dX4_push_29 rfl ?_
    refine j_getI (k := 4) K dX4_push_30 rfl rfl rfl q548 rfl rfl rfl ?_
    refine j_callV _ K (sim_X4_add hG hl d a1 (gI w x0 4) w false) dX4_push_33 rfl rfl q316 q317 q318 q102 q319 pm_X4_add rfl rfl rfl ha1 rfl (fun r2 _ => ?_)
    refine j_aload_n K dX4_push_36 rfl ?_
    refine j_iconstZ K dX4_push_37 rfl (Or.inl rfl) ?_
    refine j_putI (k := 4) K dX4_push_38 rfl rfl q548 rfl (Or.inl rfl) rfl rfl rfl rfl ?_
    exact j_vret K hr dX4_push_41
theorem sim_X4_push {G : Gx} (hG : GW G) {l : Launch} (hl : l.stackTraces = false) (d : Nat) (a0 : Nat) (w : Wd) : Mt G true l yX4_push (ws_ yX4_push cX4_push 1 (none)) d (rrV G pU) [aR 4 (some a0)] w (f_X4_push d a0 w) := by
  refine Mt.of (own := "IntervalTree$Node") hG hl (by decide +kernel) rfl rfl ?_
  intro M hM hr hnm hxt hnd K
  subst hM
  cases d with
  | zero => exact j_none
  | succ d =>
    refine j_aload_n K dX4_push_0 rfl ?_
    refine j_getR (k := 8) K dX4_push_1 rfl rfl rfl q554 rfl rfl (by decide) rfl ?_
    refine j_ifnull 18 K dX4_push_4 (by decide) (fun _ => ?_) (fun a3 ha3 => ?_)
    · exact sb_X4_push_18 hG hl K hr hnm hxt hnd _ _
    · refine j_aload_n K dX4_push_7 rfl ?_
      refine j_getR (k := 8) K dX4_push_8 rfl rfl rfl q554 rfl rfl (by decide) rfl ?_
      refine j_aload_n K dX4_push_11 rfl ?_
      refine j_getI (k := 4) K dX4_push_12 rfl rfl rfl q548 rfl rfl rfl ?_
      refine j_callV _ K (sim_X4_add hG hl d a3 (gI w a0 4) w false) dX4_push_15 rfl rfl q316 q317 q318 q102 q319 pm_X4_add rfl rfl rfl ha3 rfl (fun r4 _ => ?_)
      exact sb_X4_push_18 hG hl K hr hnm hxt hnd _ _

theorem pm_X1_append : yX1_append.cls = RX1 ∧ yX1_append.cls ≠ "java/lang/invoke/MethodHandle" ∧ yX1_append.cls ≠ "java/lang/invoke/VarHandle" ∧ (parseMethodDescriptor yX1_append.desc).map (fun d => d.parameters.length) = some 1 := by decide +kernel
def f_X1_append (d : Nat) (p1 : Option Nat) (w : Wd) : Option (Wd × Unit) :=
  match d with
  | 0 => none
  | d + 1 =>
    if ib (gI w 8 13) 100 = true then
      some (sI (sR w 19 (gI w 8 13).toNatClampNeg p1) 8 13 ((gI (sR w 19 (gI w 8 13).toNatClampNeg p1) 8 13) + 1), ())
    else none
theorem sim_X1_append {G : Gx} (hG : GW G) {l : Launch} (hl : l.stackTraces = false) (d : Nat) (p1 : Option Nat) (w : Wd) : Mt G true l yX1_append (ws_ yX1_append cX1_append 2 (none)) d (rrV G pU) [aR 1 (some 8), aR 4 p1] w (f_X1_append d p1 w) := by
  refine Mt.of (own := "IntervalTree") hG hl (by decide +kernel) rfl rfl ?_
  intro M hM hr hnm hxt hnd K
  subst hM
  cases d with
  | zero => exact j_none
  | succ d =>
    refine j_aload_n K dX1_append_0 rfl ?_
    refine j_getA (k := 12) 4 K dX1_append_1 rfl rfl rfl q193 rfl rfl (by decide) rfl rfl rfl ?_
    refine j_aload_n K dX1_append_4 rfl ?_
    refine j_getI (k := 13) K dX1_append_5 rfl rfl rfl q194 rfl rfl rfl ?_
    refine j_aload_n K dX1_append_8 rfl ?_
    refine j_ib (fun hi1 => ?_)
    refine j_aas K dX1_append_9 rfl rfl (fun _ => rfl) rfl rfl rfl (fxLen2 4 rfl rfl) hi1 ?_
    refine j_aload_n K dX1_append_10 rfl ?_
    refine j_dup K dX1_append_11 rfl ?_
    refine j_getI (k := 13) K dX1_append_12 rfl rfl rfl q194 rfl rfl rfl ?_
    refine j_iconstZ K dX1_append_15 rfl (Or.inr rfl) ?_
    refine j_iadd K dX1_append_16 ?_
    refine j_putI (k := 13) K dX1_append_17 rfl rfl q194 rfl (Or.inl rfl) rfl rfl rfl rfl ?_
    exact j_vret K hr dX1_append_20

theorem pm_X1_lambda_collectLive_4 : yX1_lambda_collectLive_4.cls = RX1 ∧ yX1_lambda_collectLive_4.cls ≠ "java/lang/invoke/MethodHandle" ∧ yX1_lambda_collectLive_4.cls ≠ "java/lang/invoke/VarHandle" ∧ (parseMethodDescriptor yX1_lambda_collectLive_4.desc).map (fun d => d.parameters.length) = some 1 := by decide +kernel
def f_X1_lambda_collectLive_4 (d : Nat) (p1 : Option Nat) (w : Wd) : Option (Wd × Unit) :=
  match d with
  | 0 => none
  | d + 1 =>
    (p1).bind fun a1 =>
    if (gI w a1 6) = 0 then
      (f_X1_append d p1 w).bind fun r2 =>
      some (r2.1, ())
    else
      some (w, ())
theorem sim_X1_lambda_collectLive_4 {G : Gx} (hG : GW G) {l : Launch} (hl : l.stackTraces = false) (d : Nat) (p1 : Option Nat) (w : Wd) : Mt G true l yX1_lambda_collectLive_4 (ws_ yX1_lambda_collectLive_4 cX1_lambda_collectLive_4 2 (none)) d (rrV G pU) [aR 1 (some 8), aR 4 p1] w (f_X1_lambda_collectLive_4 d p1 w) := by
  refine Mt.of (own := "IntervalTree") hG hl (by decide +kernel) rfl rfl ?_
  intro M hM hr hnm hxt hnd K
  subst hM
  cases d with
  | zero => exact j_none
  | succ d =>
    refine j_aload_n K dX1_lambda_collectLive_4_0 rfl ?_
    refine j_nn (fun a1 ha1 => ?_)
    refine j_getZ (k := 6) K dX1_lambda_collectLive_4_1 rfl rfl rfl q552 rfl rfl rfl ha1 ?_
    refine j_if_ne 12 K dX1_lambda_collectLive_4_4 (by decide) ?_ ?_
    · exact j_vret K hr dX1_lambda_collectLive_4_12
    · refine j_aload_n K dX1_lambda_collectLive_4_7 rfl ?_
      refine j_aload_n K dX1_lambda_collectLive_4_8 rfl ?_
      refine j_callV _ K (sim_X1_append hG hl d p1 w) dX1_lambda_collectLive_4_9 rfl rfl q304 q306 qs5 q93 q307 pm_X1_append rfl rfl rfl rfl rfl (fun r2 _ => ?_)
      exact j_vret K hr dX1_lambda_collectLive_4_12

theorem pm_X1_lambda_rebuildTree_5 : yX1_lambda_rebuildTree_5.cls = RX1 ∧ yX1_lambda_rebuildTree_5.cls ≠ "java/lang/invoke/MethodHandle" ∧ yX1_lambda_rebuildTree_5.cls ≠ "java/lang/invoke/VarHandle" ∧ (parseMethodDescriptor yX1_lambda_rebuildTree_5.desc).map (fun d => d.parameters.length) = some 1 := by decide +kernel
def f_X1_lambda_rebuildTree_5 (d : Nat) (p1 : Option Nat) (w : Wd) : Option (Wd × Unit) :=
  match d with
  | 0 => none
  | d + 1 =>
    (p1).bind fun a1 =>
    if (gI w a1 6) = 0 then
      some (w, ())
    else
      if ib (gI w a1 0) 500 = true then
        some (sR w 9 (gI w a1 0).toNatClampNeg none, ())
      else none
theorem sim_X1_lambda_rebuildTree_5 {G : Gx} (hG : GW G) {l : Launch} (hl : l.stackTraces = false) (d : Nat) (p1 : Option Nat) (w : Wd) : Mt G true l yX1_lambda_rebuildTree_5 (ws_ yX1_lambda_rebuildTree_5 cX1_lambda_rebuildTree_5 2 (none)) d (rrV G pU) [aR 1 (some 8), aR 4 p1] w (f_X1_lambda_rebuildTree_5 d p1 w) := by
  refine Mt.of (own := "IntervalTree") hG hl (by decide +kernel) rfl rfl ?_
  intro M hM hr hnm hxt hnd K
  subst hM
  cases d with
  | zero => exact j_none
  | succ d =>
    refine j_aload_n K dX1_lambda_rebuildTree_5_0 rfl ?_
    refine j_nn (fun a1 ha1 => ?_)
    refine j_getZ (k := 6) K dX1_lambda_rebuildTree_5_1 rfl rfl rfl q552 rfl rfl rfl ha1 ?_
    refine j_if_eq 17 K dX1_lambda_rebuildTree_5_4 (by decide) ?_ ?_
    · exact j_vret K hr dX1_lambda_rebuildTree_5_17
    · refine j_aload_n K dX1_lambda_rebuildTree_5_7 rfl ?_
      refine j_getA (k := 0) 0 K dX1_lambda_rebuildTree_5_8 rfl rfl rfl q179 rfl rfl (by decide) rfl rfl rfl ?_
      refine j_aload_n K dX1_lambda_rebuildTree_5_11 rfl ?_
      refine j_getI (k := 0) K dX1_lambda_rebuildTree_5_12 rfl rfl rfl q541 rfl rfl ha1 ?_
      refine j_null 4 K dX1_lambda_rebuildTree_5_15 ?_
      refine j_ib (fun hi2 => ?_)
      refine j_aas K dX1_lambda_rebuildTree_5_16 rfl rfl (fun _ => rfl) rfl rfl rfl (fxLen2 0 rfl rfl) hi2 ?_
      exact j_vret K hr dX1_lambda_rebuildTree_5_17

theorem pm_X1_lambda_save_12 : yX1_lambda_save_12.cls = RX1 ∧ yX1_lambda_save_12.cls ≠ "java/lang/invoke/MethodHandle" ∧ yX1_lambda_save_12.cls ≠ "java/lang/invoke/VarHandle" ∧ (parseMethodDescriptor yX1_lambda_save_12.desc).map (fun d => d.parameters.length) = some 1 := by decide +kernel
def f_X1_lambda_save_12 (d : Nat) (p1 : Option Nat) (w : Wd) : Option (Wd × Unit) :=
  match d with
  | 0 => none
  | d + 1 =>
    (p1).bind fun a1 =>
    (f_X4_push d a1 w).bind fun r2 =>
    some (r2.1, ())
theorem sim_X1_lambda_save_12 {G : Gx} (hG : GW G) {l : Launch} (hl : l.stackTraces = false) (d : Nat) (p1 : Option Nat) (w : Wd) : Mt G true l yX1_lambda_save_12 (ws_ yX1_lambda_save_12 cX1_lambda_save_12 1 (none)) d (rrV G pU) [aR 4 p1] w (f_X1_lambda_save_12 d p1 w) := by
  refine Mt.of (own := "IntervalTree") hG hl (by decide +kernel) rfl rfl ?_
  intro M hM hr hnm hxt hnd K
  subst hM
  cases d with
  | zero => exact j_none
  | succ d =>
    refine j_aload_n K dX1_lambda_save_12_0 rfl ?_
    refine j_nn (fun a1 ha1 => ?_)
    refine j_callV _ K (sim_X4_push hG hl d a1 w) dX1_lambda_save_12_1 rfl rfl q312 q313 q314 q102 q315 pm_X4_push rfl rfl rfl ha1 rfl (fun r2 _ => ?_)
    exact j_vret K hr dX1_lambda_save_12_4

theorem pm_X1_idOf : yX1_idOf.cls = RX1 ∧ yX1_idOf.cls ≠ "java/lang/invoke/MethodHandle" ∧ yX1_idOf.cls ≠ "java/lang/invoke/VarHandle" ∧ (parseMethodDescriptor yX1_idOf.desc).map (fun d => d.parameters.length) = some 1 := by decide +kernel
def f_X1_idOf (d : Nat) (p1 : Option Nat) (w : Wd) : Option (Wd × Int32) :=
  match d with
  | 0 => none
  | d + 1 =>
    (p1).elim
      (some (w, (-1)))
      fun a1 =>
      some (w, (gI w a1 0))
theorem sim_X1_idOf {G : Gx} (hG : GW G) {l : Launch} (hl : l.stackTraces = false) (d : Nat) (p1 : Option Nat) (w : Wd) : Mt G true l yX1_idOf (ws_ yX1_idOf cX1_idOf 1 (some .int)) d (rrV G pI) [aR 4 p1] w (f_X1_idOf d p1 w) := by
  refine Mt.of (own := "IntervalTree") hG hl (by decide +kernel) rfl rfl ?_
  intro M hM hr hnm hxt hnd K
  subst hM
  cases d with
  | zero => exact j_none
  | succ d =>
    refine j_aload_n K dX1_idOf_0 rfl ?_
    refine j_ifnonnull 8 K dX1_idOf_1 (by decide) (fun a1 ha1 => ?_) (fun _ => ?_)
    · refine j_aload_n K dX1_idOf_8 rfl ?_
      refine j_getI (k := 0) K dX1_idOf_9 rfl rfl rfl q541 rfl rfl ha1 ?_
      exact j_iret K hr dX1_idOf_12
    · refine j_iconst (x := (-1)) K dX1_idOf_4 rfl ?_
      refine j_goto 12 K dX1_idOf_5 (by decide) ?_
      exact j_iret K hr dX1_idOf_12

theorem pm_X1_saveNode : yX1_saveNode.cls = RX1 ∧ yX1_saveNode.cls ≠ "java/lang/invoke/MethodHandle" ∧ yX1_saveNode.cls ≠ "java/lang/invoke/VarHandle" ∧ (parseMethodDescriptor yX1_saveNode.desc).map (fun d => d.parameters.length) = some 1 := by decide +kernel
def f_X1_saveNode (d : Nat) (p1 : Option Nat) (w : Wd) : Option (Wd × Unit) :=
  match d with
  | 0 => none
  | d + 1 =>
    (p1).bind fun a1 =>
    if ib (gI w a1 0) 500 = true then
      (f_X1_idOf d (gR (sI (sI (sI w 23 (gI w a1 0).toNatClampNeg (gI w a1 1)) 24 (gI w a1 0).toNatClampNeg (gI (sI w 23 (gI w a1 0).toNatClampNeg (gI w a1 1)) a1 2)) 25 (gI w a1 0).toNatClampNeg (gI (sI (sI w 23 (gI w a1 0).toNatClampNeg (gI w a1 1)) 24 (gI w a1 0).toNatClampNeg (gI (sI w 23 (gI w a1 0).toNatClampNeg (gI w a1 1)) a1 2)) a1 3)) a1 8) (sI (sI (sI w 23 (gI w a1 0).toNatClampNeg (gI w a1 1)) 24 (gI w a1 0).toNatClampNeg (gI (sI w 23 (gI w a1 0).toNatClampNeg (gI w a1 1)) a1 2)) 25 (gI w a1 0).toNatClampNeg (gI (sI (sI w 23 (gI w a1 0).toNatClampNeg (gI w a1 1)) 24 (gI w a1 0).toNatClampNeg (gI (sI w 23 (gI w a1 0).toNatClampNeg (gI w a1 1)) a1 2)) a1 3))).bind fun r3 =>
      (f_X1_idOf d (gR (sI r3.1 26 (gI w a1 0).toNatClampNeg r3.2) a1 9) (sI r3.1 26 (gI w a1 0).toNatClampNeg r3.2)).bind fun r4 =>
      some (sI (sI (sI r4.1 27 (gI w a1 0).toNatClampNeg r4.2) 28 (gI w a1 0).toNatClampNeg (vp_nar .boolean (gI (sI r4.1 27 (gI w a1 0).toNatClampNeg r4.2) a1 5))) 29 (gI w a1 0).toNatClampNeg (vp_nar .boolean (gI (sI (sI r4.1 27 (gI w a1 0).toNatClampNeg r4.2) 28 (gI w a1 0).toNatClampNeg (vp_nar .boolean (gI (sI r4.1 27 (gI w a1 0).toNatClampNeg r4.2) a1 5))) a1 6)), ())
    else none
theorem sim_X1_saveNode {G : Gx} (hG : GW G) {l : Launch} (hl : l.stackTraces = false) (d : Nat) (p1 : Option Nat) (w : Wd) : Mt G true l yX1_saveNode (ws_ yX1_saveNode cX1_saveNode 3 (none)) d (rrV G pU) [aR 1 (some 8), aR 4 p1] w (f_X1_saveNode d p1 w) := by
  refine Mt.of (own := "IntervalTree") hG hl (by decide +kernel) rfl rfl ?_
  intro M hM hr hnm hxt hnd K
  subst hM
  cases d with
  | zero => exact j_none
  | succ d =>
    refine j_aload_n K dX1_saveNode_0 rfl ?_
    refine j_nn (fun a1 ha1 => ?_)
    refine j_getI (k := 0) K dX1_saveNode_1 rfl rfl rfl q541 rfl rfl ha1 ?_
    refine j_istore_n K dX1_saveNode_4 rfl rfl ?_
    refine j_aload_n K dX1_saveNode_5 rfl ?_
    refine j_getA (k := 22) 8 K dX1_saveNode_6 rfl rfl rfl q205 rfl rfl (by decide) rfl rfl rfl ?_
    refine j_iload_n K dX1_saveNode_9 rfl ?_
    refine j_aload_n K dX1_saveNode_10 rfl ?_
    refine j_getI (k := 1) K dX1_saveNode_11 rfl rfl rfl q543 rfl rfl ha1 ?_
    refine j_ib (fun hi2 => ?_)
    refine j_ias K dX1_saveNode_14 rfl (fxLen2 8 rfl rfl) hi2 ?_
    refine j_aload_n K dX1_saveNode_15 rfl ?_
    refine j_getA (k := 23) 9 K dX1_saveNode_16 rfl rfl rfl q206 rfl rfl (by decide) rfl rfl rfl ?_
    refine j_iload_n K dX1_saveNode_19 rfl ?_
    refine j_aload_n K dX1_saveNode_20 rfl ?_
    refine j_getI (k := 2) K dX1_saveNode_21 rfl rfl rfl q545 rfl rfl ha1 ?_
    refine j_ias K dX1_saveNode_24 rfl (fxLen2 9 rfl rfl) hi2 ?_
    refine j_aload_n K dX1_saveNode_25 rfl ?_
    refine j_getA (k := 24) 10 K dX1_saveNode_26 rfl rfl rfl q207 rfl rfl (by decide) rfl rfl rfl ?_
    refine j_iload_n K dX1_saveNode_29 rfl ?_
    refine j_aload_n K dX1_saveNode_30 rfl ?_
    refine j_getI (k := 3) K dX1_saveNode_31 rfl rfl rfl q547 rfl rfl ha1 ?_
    refine j_ias K dX1_saveNode_34 rfl (fxLen2 10 rfl rfl) hi2 ?_
    refine j_aload_n K dX1_saveNode_35 rfl ?_
    refine j_getA (k := 25) 11 K dX1_saveNode_36 rfl rfl rfl q208 rfl rfl (by decide) rfl rfl rfl ?_
    refine j_iload_n K dX1_saveNode_39 rfl ?_
    refine j_aload_n K dX1_saveNode_40 rfl ?_
    refine j_getR (k := 8) K dX1_saveNode_41 rfl rfl rfl q555 rfl rfl (by decide) ha1 ?_
    refine j_callS _ K (sim_X1_idOf hG hl d (gR (sI (sI (sI w 23 (gI w a1 0).toNatClampNeg (gI w a1 1)) 24 (gI w a1 0).toNatClampNeg (gI (sI w 23 (gI w a1 0).toNatClampNeg (gI w a1 1)) a1 2)) 25 (gI w a1 0).toNatClampNeg (gI (sI (sI w 23 (gI w a1 0).toNatClampNeg (gI w a1 1)) 24 (gI w a1 0).toNatClampNeg (gI (sI w 23 (gI w a1 0).toNatClampNeg (gI w a1 1)) a1 2)) a1 3)) a1 8) (sI (sI (sI w 23 (gI w a1 0).toNatClampNeg (gI w a1 1)) 24 (gI w a1 0).toNatClampNeg (gI (sI w 23 (gI w a1 0).toNatClampNeg (gI w a1 1)) a1 2)) 25 (gI w a1 0).toNatClampNeg (gI (sI (sI w 23 (gI w a1 0).toNatClampNeg (gI w a1 1)) 24 (gI w a1 0).toNatClampNeg (gI (sI w 23 (gI w a1 0).toNatClampNeg (gI w a1 1)) a1 2)) a1 3))) dX1_saveNode_44 q398 q399 q93 q400 pm_X1_idOf.2 rfl rfl rfl rfl (fun r3 _ => ?_)
    refine j_ias K dX1_saveNode_47 rfl (fxLen2 11 rfl rfl) hi2 ?_
    refine j_aload_n K dX1_saveNode_48 rfl ?_
    refine j_getA (k := 26) 12 K dX1_saveNode_49 rfl rfl rfl q209 rfl rfl (by decide) rfl rfl rfl ?_
    refine j_iload_n K dX1_saveNode_52 rfl ?_
    refine j_aload_n K dX1_saveNode_53 rfl ?_
    refine j_getR (k := 9) K dX1_saveNode_54 rfl rfl rfl q557 rfl rfl (by decide) ha1 ?_
    refine j_callS _ K (sim_X1_idOf hG hl d (gR (sI r3.1 26 (gI w a1 0).toNatClampNeg r3.2) a1 9) (sI r3.1 26 (gI w a1 0).toNatClampNeg r3.2)) dX1_saveNode_57 q398 q399 q93 q400 pm_X1_idOf.2 rfl rfl rfl rfl (fun r4 _ => ?_)
    refine j_ias K dX1_saveNode_60 rfl (fxLen2 12 rfl rfl) hi2 ?_
    refine j_aload_n K dX1_saveNode_61 rfl ?_
    refine j_getA (k := 27) 13 K dX1_saveNode_62 rfl rfl rfl q210 rfl rfl (by decide) rfl rfl rfl ?_
    refine j_iload_n K dX1_saveNode_65 rfl ?_
    refine j_aload_n K dX1_saveNode_66 rfl ?_
    refine j_getZ (k := 5) K dX1_saveNode_67 rfl rfl rfl q550 rfl rfl rfl ha1 ?_
    refine j_zas K dX1_saveNode_70 rfl (fxLen2 13 rfl rfl) hi2 ?_
    refine j_aload_n K dX1_saveNode_71 rfl ?_
    refine j_getA (k := 28) 14 K dX1_saveNode_72 rfl rfl rfl q211 rfl rfl (by decide) rfl rfl rfl ?_
    refine j_iload_n K dX1_saveNode_75 rfl ?_
    refine j_aload_n K dX1_saveNode_76 rfl ?_
    refine j_getZ (k := 6) K dX1_saveNode_77 rfl rfl rfl q552 rfl rfl rfl ha1 ?_
    refine j_zas K dX1_saveNode_80 rfl (fxLen2 14 rfl rfl) hi2 ?_
    exact j_vret K hr dX1_saveNode_81

theorem pm_X1_consider : yX1_consider.cls = RX1 ∧ yX1_consider.cls ≠ "java/lang/invoke/MethodHandle" ∧ yX1_consider.cls ≠ "java/lang/invoke/VarHandle" ∧ (parseMethodDescriptor yX1_consider.desc).map (fun d => d.parameters.length) = some 2 := by decide +kernel
def b_X1_consider_42 (d : Nat) (x1 : Option Nat) (x3 : Int32) (w : Wd) : Option (Wd × Unit) :=
  some (sI (sR w 8 16 x1) 8 17 x3, ())
def f_X1_consider (d : Nat) (p1 : Option Nat) (p2 : Int32) (w : Wd) : Option (Wd × Unit) :=
  match d with
  | 0 => none
  | d + 1 =>
    (p1).bind fun a1 =>
    if (gI w a1 6) = 0 then
      (gR w 8 16).elim
        (b_X1_consider_42 d p1 (mmax 0 (mmax ((gI w a1 1) - p2) (p2 - (gI w a1 2)))) w)
        fun a2 =>
        if (gI w 8 17) ≤ (mmax 0 (mmax ((gI w a1 1) - p2) (p2 - (gI w a1 2)))) then
          some (w, ())
        else
          b_X1_consider_42 d p1 (mmax 0 (mmax ((gI w a1 1) - p2) (p2 - (gI w a1 2)))) w
    else
      some (w, ())
theorem sb_X1_consider_42 {G : Gx} (hG : GW G) {M : Mx} (hl : (mL M).stackTraces = false) {w0 : Wd} {d : Nat} (K : Cx (G, true, M, 4, w0) cX1_consider "IntervalTree" (d + 1)) (hr : (mH M).sig.returnType = none) (hnm : (mH M).name = yX1_consider.name) (hxt : ∀ x ∈ (mC M).exceptionTable.toList, False) (hnd : (mS M).methodNamed? yX1_consider = some (mM M)) : ∀ (x1 : Option Nat) (x3 : Int32) (w : Wd) (fx3 : Bool), Jf (G, true, M, 4, w0) (rrV G pU) (b_X1_consider_42 d x1 x3 w) w 42 [some (aR 1 (some 8)), some (aR 4 x1), none, some (aB fx3 x3)] [] := by
  intro x1 x3 w fx3
  refine j_aload_n K dX1_consider_42 rfl ?_
  refine j_aload_n K dX1_consider_43 rfl ?_
  refine j_putR (k := 16) K dX1_consider_44 rfl rfl q197 rfl (Or.inl rfl) rfl (Or.inl ⟨_, rfl⟩) rfl (by decide) rfl (fun _ => by decide +kernel) rfl ?_
  refine j_aload_n K dX1_consider_47 rfl ?_
  refine j_iload_n K dX1_consider_48 rfl ?_
  refine j_putI (k := 17) K dX1_consider_49 rfl rfl q198 rfl (Or.inl rfl) rfl rfl rfl rfl ?_
  exact j_vret K hr dX1_consider_52
theorem sim_X1_consider {G : Gx} (hG : GW G) {l : Launch} (hl : l.stackTraces = false) (d : Nat) (p1 : Option Nat) (p2 : Int32) (w : Wd) (fp2 : Bool) : Mt G true l yX1_consider (ws_ yX1_consider cX1_consider 4 (none)) d (rrV G pU) [aR 1 (some 8), aR 4 p1, aB fp2 p2] w (f_X1_consider d p1 p2 w) := by
  refine Mt.of (own := "IntervalTree") hG hl (by decide +kernel) rfl rfl ?_
  intro M hM hr hnm hxt hnd K
  subst hM
  cases d with
  | zero => exact j_none
  | succ d =>
    refine j_iconstZ K dX1_consider_0 rfl (Or.inl rfl) ?_
    refine j_aload_n K dX1_consider_1 rfl ?_
    refine j_nn (fun a1 ha1 => ?_)
    refine j_getI (k := 1) K dX1_consider_2 rfl rfl rfl q543 rfl rfl ha1 ?_
    refine j_iload_n K dX1_consider_5 rfl ?_
    refine j_isub K dX1_consider_6 ?_
    refine j_iload_n K dX1_consider_7 rfl ?_
    refine j_aload_n K dX1_consider_8 rfl ?_
    refine j_getI (k := 2) K dX1_consider_9 rfl rfl rfl q545 rfl rfl ha1 ?_
    refine j_isub K dX1_consider_12 ?_
    refine j_mmax K dX1_consider_13 q358 rfl ?_
    refine j_mmax K dX1_consider_16 q358 rfl ?_
    refine j_istore_n K dX1_consider_19 rfl rfl ?_
    refine j_aload_n K dX1_consider_20 rfl ?_
    refine j_getZ (k := 6) K dX1_consider_21 rfl rfl rfl q552 rfl rfl rfl ha1 ?_
    refine j_if_ne 52 K dX1_consider_24 (by decide) ?_ ?_
    · exact j_vret K hr dX1_consider_52
    · refine j_aload_n K dX1_consider_27 rfl ?_
      refine j_getR (k := 16) K dX1_consider_28 rfl rfl rfl q197 rfl rfl (by decide) rfl ?_
      refine j_ifnull 42 K dX1_consider_31 (by decide) (fun _ => ?_) (fun a2 ha2 => ?_)
      · exact j_wk (sb_X1_consider_42 hG hl K hr hnm hxt hnd _ _ _ _) ⟨rfl, rfl, rfl, trivial⟩
      · refine j_iload_n K dX1_consider_34 rfl ?_
        refine j_aload_n K dX1_consider_35 rfl ?_
        refine j_getI (k := 17) K dX1_consider_36 rfl rfl rfl q198 rfl rfl rfl ?_
        refine j_icmp_ge 52 K dX1_consider_39 (by decide) ?_ ?_
        · exact j_vret K hr dX1_consider_52
        · exact j_wk (sb_X1_consider_42 hG hl K hr hnm hxt hnd _ _ _ _) ⟨rfl, rfl, rfl, trivial⟩

theorem pm_X1_lambda_nearest_6 : yX1_lambda_nearest_6.cls = RX1 ∧ yX1_lambda_nearest_6.cls ≠ "java/lang/invoke/MethodHandle" ∧ yX1_lambda_nearest_6.cls ≠ "java/lang/invoke/VarHandle" ∧ (parseMethodDescriptor yX1_lambda_nearest_6.desc).map (fun d => d.parameters.length) = some 2 := by decide +kernel
def f_X1_lambda_nearest_6 (d : Nat) (p1 : Int32) (p2 : Option Nat) (w : Wd) : Option (Wd × Unit) :=
  match d with
  | 0 => none
  | d + 1 =>
    (f_X1_consider d p2 p1 w).bind fun r1 =>
    some (r1.1, ())
theorem sim_X1_lambda_nearest_6 {G : Gx} (hG : GW G) {l : Launch} (hl : l.stackTraces = false) (d : Nat) (p1 : Int32) (p2 : Option Nat) (w : Wd) (fp1 : Bool) : Mt G true l yX1_lambda_nearest_6 (ws_ yX1_lambda_nearest_6 cX1_lambda_nearest_6 3 (none)) d (rrV G pU) [aR 1 (some 8), aB fp1 p1, aR 4 p2] w (f_X1_lambda_nearest_6 d p1 p2 w) := by
  refine Mt.of (own := "IntervalTree") hG hl (by decide +kernel) rfl rfl ?_
  intro M hM hr hnm hxt hnd K
  subst hM
  cases d with
  | zero => exact j_none
  | succ d =>
    refine j_aload_n K dX1_lambda_nearest_6_0 rfl ?_
    refine j_aload_n K dX1_lambda_nearest_6_1 rfl ?_
    refine j_iload_n K dX1_lambda_nearest_6_2 rfl ?_
    refine j_callV _ K (sim_X1_consider hG hl d p2 p1 w fp1) dX1_lambda_nearest_6_3 rfl rfl q876 q878 qs30 q93 q879 pm_X1_consider rfl rfl rfl rfl rfl (fun r1 _ => ?_)
    exact j_vret K hr dX1_lambda_nearest_6_6

def f_VIS (d : Nat) (b : Nat) (p : Option Nat) (w : Wd) : Option (Wd × Unit) :=
  match d with
  | 0 => none
  | d + 1 =>
    if gK w b = 27 then
      if gL w b = 1 then
        if gR w b 0 = some 8 then f_X1_lambda_collectLive_4 d p w else none
      else none
    else
      if gK w b = 28 then
        if gL w b = 1 then
          if gR w b 0 = some 8 then f_X1_lambda_rebuildTree_5 d p w else none
        else none
      else
        if gK w b = 29 then
          if gL w b = 0 then
            f_X1_lambda_save_12 d p w
          else none
        else
          if gK w b = 30 then
            if gL w b = 1 then
              if gR w b 0 = some 8 then f_X1_saveNode d p w else none
            else none
          else
            if gK w b = 31 then
              if gL w b = 2 then
                if gR w b 0 = some 8 then f_X1_lambda_nearest_6 d (gI w b 1) p w else none
              else none
            else
              none
theorem sim_VIS {G : Gx} (hG : GW G) {l : Launch} (hl : l.stackTraces = false) (d : Nat) (b : Nat) (p : Option Nat) (w : Wd) : Mi G true l d pU b [aR 4 p] w (f_VIS d b p w) := by
  cases d with
  | zero => exact Mi.none
  | succ d =>
    refine Mi.ite (fun hk => ?_) (fun _ => ?_)
    · refine Mi.ite (fun hgl => ?_) (fun _ => Mi.none)
      refine Mi.ite (fun h7 => ?_) (fun _ => Mi.none)
      exact Mi.of (kd := 27) (n := 1) (caps := [aR 1 (some 8)]) hG (by decide) (by decide) hk hgl (by decide +kernel) (by show _ = [rf G (gR w b 0)]; rw [h7]; rfl) (fun hv => (okc (fun x e => hv 0 x (h7.trans e)) (fun _ h => by cases h))) (sim_X1_lambda_collectLive_4 hG hl d p w) (Or.inr ⟨rfl, q302, qs4, rfl, rfl, _, rfl⟩) q93 q303 pm_X1_lambda_collectLive_4.2 rfl (Or.inr (Or.inr ⟨rfl, rfl, fun _ => rfl⟩))
    refine Mi.ite (fun hk => ?_) (fun _ => ?_)
    · refine Mi.ite (fun hgl => ?_) (fun _ => Mi.none)
      refine Mi.ite (fun h7 => ?_) (fun _ => Mi.none)
      exact Mi.of (kd := 28) (n := 1) (caps := [aR 1 (some 8)]) hG (by decide) (by decide) hk hgl (by decide +kernel) (by show _ = [rf G (gR w b 0)]; rw [h7]; rfl) (fun hv => (okc (fun x e => hv 0 x (h7.trans e)) (fun _ h => by cases h))) (sim_X1_lambda_rebuildTree_5 hG hl d p w) (Or.inr ⟨rfl, q325, qs7, rfl, rfl, _, rfl⟩) q93 q326 pm_X1_lambda_rebuildTree_5.2 rfl (Or.inr (Or.inr ⟨rfl, rfl, fun _ => rfl⟩))
    refine Mi.ite (fun hk => ?_) (fun _ => ?_)
    · refine Mi.ite (fun hgl => ?_) (fun _ => Mi.none)
      exact Mi.of (kd := 29) (n := 1) (caps := []) hG (by decide) (by decide) hk hgl (by decide +kernel) rfl (fun hv => (fun _ h => by cases h)) (sim_X1_lambda_save_12 hG hl d p w) (Or.inl ⟨rfl, q429, rfl⟩) q93 q430 pm_X1_lambda_save_12.2 rfl (Or.inr (Or.inr ⟨rfl, rfl, fun _ => rfl⟩))
    refine Mi.ite (fun hk => ?_) (fun _ => ?_)
    · refine Mi.ite (fun hgl => ?_) (fun _ => Mi.none)
      refine Mi.ite (fun h7 => ?_) (fun _ => Mi.none)
      exact Mi.of (kd := 30) (n := 1) (caps := [aR 1 (some 8)]) hG (by decide) (by decide) hk hgl (by decide +kernel) (by show _ = [rf G (gR w b 0)]; rw [h7]; rfl) (fun hv => (okc (fun x e => hv 0 x (h7.trans e)) (fun _ h => by cases h))) (sim_X1_saveNode hG hl d p w) (Or.inr ⟨rfl, q432, qs12, rfl, rfl, _, rfl⟩) q93 q433 pm_X1_saveNode.2 rfl (Or.inr (Or.inr ⟨rfl, rfl, fun _ => rfl⟩))
    refine Mi.ite (fun hk => ?_) (fun _ => ?_)
    · refine Mi.ite (fun hgl => ?_) (fun _ => Mi.none)
      refine Mi.ite (fun h7 => ?_) (fun _ => Mi.none)
      exact Mi.of (kd := 31) (n := 2) (caps := [aR 1 (some 8), aI (gI w b 1)]) hG (by decide) (by decide) hk hgl (by decide +kernel) (by show _ = [rf G (gR w b 0), cv G (aI (gI w b 1))]; rw [h7]; rfl) (fun hv => (okc (fun x e => hv 0 x (h7.trans e)) (okc (okI w _) (fun _ h => by cases h)))) (sim_X1_lambda_nearest_6 hG hl d (gI w b 1) p w false) (Or.inr ⟨rfl, q874, qs29, rfl, rfl, _, rfl⟩) q93 q875 pm_X1_lambda_nearest_6.2 rfl (Or.inr (Or.inr ⟨rfl, rfl, fun _ => rfl⟩))
    exact Mi.none

theorem pm_X1_visitAll : yX1_visitAll.cls = RX1 ∧ yX1_visitAll.cls ≠ "java/lang/invoke/MethodHandle" ∧ yX1_visitAll.cls ≠ "java/lang/invoke/VarHandle" ∧ (parseMethodDescriptor yX1_visitAll.desc).map (fun d => d.parameters.length) = some 2 := by decide +kernel
def fB_X1_visitAll (d : Nat) (g_X1_visitAll : Option Nat → Option Nat → Wd → Option (Wd × Unit)) (p1 : Option Nat) (p2 : Option Nat) (w : Wd) : Option (Wd × Unit) :=
  (p1).elim
    (some (w, ()))
    fun a1 =>
    (f_X4_push d a1 w).bind fun r2 =>
    (g_X1_visitAll (gR r2.1 a1 8) p2 r2.1).bind fun r3 =>
    (p2).bind fun a4 =>
    (f_VIS d a4 p1 r3.1).bind fun r5 =>
    (g_X1_visitAll (gR r5.1 a1 9) p2 r5.1).bind fun r6 =>
    some (r6.1, ())
theorem simB_X1_visitAll {G : Gx} (hG : GW G) {l : Launch} (hl : l.stackTraces = false) (d : Nat) {g_X1_visitAll : Option Nat → Option Nat → Wd → Option (Wd × Unit)} (hg_X1_visitAll : ∀ (p1 : Option Nat) (p2 : Option Nat) (w : Wd), Mt G true l yX1_visitAll (ws_ yX1_visitAll cX1_visitAll 3 (none)) d (rrV G pU) [aR 1 (some 8), aR 4 p1, aR 52 p2] w (g_X1_visitAll p1 p2 w)) (p1 : Option Nat) (p2 : Option Nat) (w : Wd) : Mt G true l yX1_visitAll (ws_ yX1_visitAll cX1_visitAll 3 (none)) (d + 1) (rrV G pU) [aR 1 (some 8), aR 4 p1, aR 52 p2] w (fB_X1_visitAll d g_X1_visitAll p1 p2 w) := by
  refine Mt.of (own := "IntervalTree") hG hl (by decide +kernel) rfl rfl ?_
  intro M hM hr hnm hxt hnd K
  subst hM
  refine j_aload_n K dX1_visitAll_0 rfl ?_
  refine j_ifnonnull 5 K dX1_visitAll_1 (by decide) (fun a1 ha1 => ?_) (fun _ => ?_)
  · refine j_aload_n K dX1_visitAll_5 rfl ?_
    refine j_callV _ K (sim_X4_push hG hl d a1 w) dX1_visitAll_6 rfl rfl q312 q313 q314 q102 q315 pm_X4_push rfl rfl rfl ha1 rfl (fun r2 _ => ?_)
    refine j_aload_n K dX1_visitAll_9 rfl ?_
    refine j_aload_n K dX1_visitAll_10 rfl ?_
    refine j_getR (k := 8) K dX1_visitAll_11 rfl rfl rfl q555 rfl rfl (by decide) ha1 ?_
    refine j_aload_n K dX1_visitAll_14 rfl ?_
    refine j_callV _ K (hg_X1_visitAll (gR r2.1 a1 8) p2 r2.1) dX1_visitAll_15 rfl rfl q308 q310 qs6 q93 q311 pm_X1_visitAll rfl rfl rfl rfl rfl (fun r3 _ => ?_)
    refine j_aload_n K dX1_visitAll_18 rfl ?_
    refine j_aload_n K dX1_visitAll_19 rfl ?_
    refine j_nn (fun a4 ha4 => ?_)
    refine j_callM (t := 52) K (sim_VIS hG hl d a4 p1 r3.1) dX1_visitAll_20 (by decide) (by decide) q321 ha4 rfl (fun r5 _ => ?_)
    refine j_aload_n K dX1_visitAll_25 rfl ?_
    refine j_aload_n K dX1_visitAll_26 rfl ?_
    refine j_getR (k := 9) K dX1_visitAll_27 rfl rfl rfl q557 rfl rfl (by decide) ha1 ?_
    refine j_aload_n K dX1_visitAll_30 rfl ?_
    refine j_callV _ K (hg_X1_visitAll (gR r5.1 a1 9) p2 r5.1) dX1_visitAll_31 rfl rfl q308 q310 qs6 q93 q311 pm_X1_visitAll rfl rfl rfl rfl rfl (fun r6 _ => ?_)
    exact j_vret K hr dX1_visitAll_34
  · exact j_vret K hr dX1_visitAll_4
def f_X1_visitAll : Nat → Option Nat → Option Nat → Wd → Option (Wd × Unit)
  | 0 => fun _ _ _ => none
  | d + 1 => fB_X1_visitAll d (f_X1_visitAll d)
theorem sim_X1_visitAll {G : Gx} (hG : GW G) {l : Launch} (hl : l.stackTraces = false) : ∀ (d : Nat) (p1 : Option Nat) (p2 : Option Nat) (w : Wd), Mt G true l yX1_visitAll (ws_ yX1_visitAll cX1_visitAll 3 (none)) d (rrV G pU) [aR 1 (some 8), aR 4 p1, aR 52 p2] w (f_X1_visitAll d p1 p2 w) := by
  intro d
  induction d with
  | zero => intros; exact fun _ h => by cases h
  | succ d ih => exact simB_X1_visitAll hG hl d ih

theorem pm_X1_collectLive : yX1_collectLive.cls = RX1 ∧ yX1_collectLive.cls ≠ "java/lang/invoke/MethodHandle" ∧ yX1_collectLive.cls ≠ "java/lang/invoke/VarHandle" ∧ (parseMethodDescriptor yX1_collectLive.desc).map (fun d => d.parameters.length) = some 0 := by decide +kernel
def f_X1_collectLive (d : Nat) (w : Wd) : Option (Wd × Unit) :=
  match d with
  | 0 => none
  | d + 1 =>
    if 49 ≤ d then
      (nwB (sI w 8 13 0) 27 1 1).bind fun w2 =>
      (f_X1_visitAll d (gR (sI w 8 13 0) 8 4) (some (gN (sI w 8 13 0))) (setAs w2 (gN (sI w 8 13 0)) 0 [aR 1 (some 8)])).bind fun r3 =>
      some (r3.1, ())
    else none
theorem sim_X1_collectLive {G : Gx} (hG : GW G) {l : Launch} (hl : l.stackTraces = false) (d : Nat) (w : Wd) : Mt G true l yX1_collectLive (ws_ yX1_collectLive cX1_collectLive 1 (none)) d (rrV G pU) [aR 1 (some 8)] w (f_X1_collectLive d w) := by
  refine Mt.of (own := "IntervalTree") hG hl (by decide +kernel) rfl rfl ?_
  intro M hM hr hnm hxt hnd K
  subst hM
  cases d with
  | zero => exact j_none
  | succ d =>
    refine j_aload_n K dX1_collectLive_0 rfl ?_
    refine j_iconstZ K dX1_collectLive_1 rfl (Or.inl rfl) ?_
    refine j_putI (k := 13) K dX1_collectLive_2 rfl rfl q194 rfl (Or.inl rfl) rfl rfl rfl rfl ?_
    refine j_aload_n K dX1_collectLive_5 rfl ?_
    refine j_aload_n K dX1_collectLive_6 rfl ?_
    refine j_getR (k := 4) K dX1_collectLive_7 rfl rfl rfl q185 rfl rfl (by decide) rfl ?_
    refine j_aload_n K dX1_collectLive_10 rfl ?_
    refine j_if (fun hd1 => ?_)
    refine j_indyM (kd := 27) (t := 52) [aR 1 (some 8)] K hnd (by decide) (by decide) rfl rfl rfl dX1_collectLive_11 rfl rfl (by decide) rfl hd1 rfl rfl (fun w2 => ?_)
    refine j_callV _ K (sim_X1_visitAll hG hl d (gR (sI w 8 13 0) 8 4) (some (gN (sI w 8 13 0))) (setAs w2 (gN (sI w 8 13 0)) 0 [aR 1 (some 8)])) dX1_collectLive_16 rfl rfl q308 q310 qs6 q93 q311 pm_X1_visitAll rfl rfl rfl rfl rfl (fun r3 _ => ?_)
    exact j_vret K hr dX1_collectLive_19

theorem pm_X4_include : yX4_include.cls = RX4 ∧ yX4_include.cls ≠ "java/lang/invoke/MethodHandle" ∧ yX4_include.cls ≠ "java/lang/invoke/VarHandle" ∧ (parseMethodDescriptor yX4_include.desc).map (fun d => d.parameters.length) = some 1 := by decide +kernel
def b_X4_include_67 (d : Nat) (x0 : Nat) (x1 : Option Nat) (s0 : Nat) (s1 : Int32) (w : Wd) : Option (Wd × Unit) :=
  (x1).bind fun a3 =>
  some (sI (sI w s0 12 s1) x0 10 ((gI (sI w s0 12 s1) x0 10) + (gI (sI w s0 12 s1) a3 10)), ())
def b_X4_include_38 (d : Nat) (x0 : Nat) (x1 : Option Nat) (s0 : Nat) (s1 : Int32) (w : Wd) : Option (Wd × Unit) :=
  if (gI (sI w s0 11 s1) x0 10) = 0 then
    (x1).bind fun a3 =>
    b_X4_include_67 d x0 x1 x0 (gI (sI w s0 11 s1) a3 12) (sI w s0 11 s1)
  else
    (x1).bind fun a2 =>
    b_X4_include_67 d x0 x1 x0 (mmax (gI (sI w s0 11 s1) x0 12) (gI (sI w s0 11 s1) a2 12)) (sI w s0 11 s1)
def f_X4_include (d : Nat) (a0 : Nat) (p1 : Option Nat) (w : Wd) : Option (Wd × Unit) :=
  match d with
  | 0 => none
  | d + 1 =>
    (p1).elim
      (some (w, ()))
      fun a1 =>
      if (gI w a1 10) = 0 then
        some (w, ())
      else
        if (gI w a0 10) = 0 then
          b_X4_include_38 d a0 p1 a0 (gI w a1 11) w
        else
          b_X4_include_38 d a0 p1 a0 (mmax (gI w a0 11) (gI w a1 11)) w
theorem sb_X4_include_67 {G : Gx} (hG : GW G) {M : Mx} (hl : (mL M).stackTraces = false) {w0 : Wd} {d : Nat} (K : Cx (G, true, M, 2, w0) cX4_include "IntervalTree$Node" (d + 1)) (hr : (mH M).sig.returnType = none) (hnm : (mH M).name = yX4_include.name) (hxt : ∀ x ∈ (mC M).exceptionTable.toList, False) (hnd : (mS M).methodNamed? yX4_include = some (mM M)) : ∀ (x0 : Nat) (x1 : Option Nat) (s0 : Nat) (s1 : Int32) (w : Wd) (fs1 : Bool), Jf (G, true, M, 2, w0) (rrV G pU) (b_X4_include_67 d x0 x1 s0 s1 w) w 67 [some (aR 4 (some x0)), some (aR 4 x1)] [aB fs1 s1, aR 4 (some s0)] := by
  intro x0 x1 s0 s1 w fs1
  refine j_putI (k := 12) K dX4_include_67 rfl rfl q562 rfl (Or.inl rfl) rfl rfl rfl rfl ?_
  refine j_aload_n K dX4_include_70 rfl ?_
  refine j_dup K dX4_include_71 rfl ?_
  refine j_getI (k := 10) K dX4_include_72 rfl rfl rfl q558 rfl rfl rfl ?_
  refine j_aload_n K dX4_include_75 rfl ?_
  refine j_nn (fun a3 ha3 => ?_)
  refine j_getI (k := 10) K dX4_include_76 rfl rfl rfl q558 rfl rfl ha3 ?_
  refine j_iadd K dX4_include_79 ?_
  refine j_putI (k := 10) K dX4_include_80 rfl rfl q558 rfl (Or.inl rfl) rfl rfl rfl rfl ?_
  exact j_vret K hr dX4_include_83
theorem sb_X4_include_38 {G : Gx} (hG : GW G) {M : Mx} (hl : (mL M).stackTraces = false) {w0 : Wd} {d : Nat} (K : Cx (G, true, M, 2, w0) cX4_include "IntervalTree$Node" (d + 1)) (hr : (mH M).sig.returnType = none) (hnm : (mH M).name = yX4_include.name) (hxt : ∀ x ∈ (mC M).exceptionTable.toList, False) (hnd : (mS M).methodNamed? yX4_include = some (mM M)) : ∀ (x0 : Nat) (x1 : Option Nat) (s0 : Nat) (s1 : Int32) (w : Wd) (fs1 : Bool), Jf (G, true, M, 2, w0) (rrV G pU) (b_X4_include_38 d x0 x1 s0 s1 w) w 38 [some (aR 4 (some x0)), some (aR 4 x1)] [aB fs1 s1, aR 4 (some s0)] := by
  intro x0 x1 s0 s1 w fs1
  refine j_putI (k := 11) K dX4_include_38 rfl rfl q560 rfl (Or.inl rfl) rfl rfl rfl rfl ?_
  refine j_aload_n K dX4_include_41 rfl ?_
  refine j_aload_n K dX4_include_42 rfl ?_
  refine j_getI (k := 10) K dX4_include_43 rfl rfl rfl q558 rfl rfl rfl ?_
  refine j_if_ne 56 K dX4_include_46 (by decide) ?_ ?_
  · refine j_aload_n K dX4_include_56 rfl ?_
    refine j_getI (k := 12) K dX4_include_57 rfl rfl rfl q562 rfl rfl rfl ?_
    refine j_aload_n K dX4_include_60 rfl ?_
    refine j_nn (fun a2 ha2 => ?_)
    refine j_getI (k := 12) K dX4_include_61 rfl rfl rfl q562 rfl rfl ha2 ?_
    refine j_mmax K dX4_include_64 q340 rfl ?_
    exact sb_X4_include_67 hG hl K hr hnm hxt hnd _ _ _ _ _ _
  · refine j_aload_n K dX4_include_49 rfl ?_
    refine j_nn (fun a3 ha3 => ?_)
    refine j_getI (k := 12) K dX4_include_50 rfl rfl rfl q562 rfl rfl ha3 ?_
    refine j_goto 67 K dX4_include_53 (by decide) ?_
    exact sb_X4_include_67 hG hl K hr hnm hxt hnd _ _ _ _ _ _
theorem sim_X4_include {G : Gx} (hG : GW G) {l : Launch} (hl : l.stackTraces = false) (d : Nat) (a0 : Nat) (p1 : Option Nat) (w : Wd) : Mt G true l yX4_include (ws_ yX4_include cX4_include 2 (none)) d (rrV G pU) [aR 4 (some a0), aR 4 p1] w (f_X4_include d a0 p1 w) := by
  refine Mt.of (own := "IntervalTree$Node") hG hl (by decide +kernel) rfl rfl ?_
  intro M hM hr hnm hxt hnd K
  subst hM
  cases d with
  | zero => exact j_none
  | succ d =>
    refine j_aload_n K dX4_include_0 rfl ?_
    refine j_ifnull 11 K dX4_include_1 (by decide) (fun _ => ?_) (fun a1 ha1 => ?_)
    · exact j_vret K hr dX4_include_11
    · refine j_aload_n K dX4_include_4 rfl ?_
      refine j_getI (k := 10) K dX4_include_5 rfl rfl rfl q558 rfl rfl ha1 ?_
      refine j_if_ne 12 K dX4_include_8 (by decide) ?_ ?_
      · refine j_aload_n K dX4_include_12 rfl ?_
        refine j_aload_n K dX4_include_13 rfl ?_
        refine j_getI (k := 10) K dX4_include_14 rfl rfl rfl q558 rfl rfl rfl ?_
        refine j_if_ne 27 K dX4_include_17 (by decide) ?_ ?_
        · refine j_aload_n K dX4_include_27 rfl ?_
          refine j_getI (k := 11) K dX4_include_28 rfl rfl rfl q560 rfl rfl rfl ?_
          refine j_aload_n K dX4_include_31 rfl ?_
          refine j_getI (k := 11) K dX4_include_32 rfl rfl rfl q560 rfl rfl ha1 ?_
          refine j_mmax K dX4_include_35 q340 rfl ?_
          exact sb_X4_include_38 hG hl K hr hnm hxt hnd _ _ _ _ _ _
        · refine j_aload_n K dX4_include_20 rfl ?_
          refine j_getI (k := 11) K dX4_include_21 rfl rfl rfl q560 rfl rfl ha1 ?_
          refine j_goto 38 K dX4_include_24 (by decide) ?_
          exact sb_X4_include_38 hG hl K hr hnm hxt hnd _ _ _ _ _ _
      · exact j_vret K hr dX4_include_11

theorem pm_X4_pull : yX4_pull.cls = RX4 ∧ yX4_pull.cls ≠ "java/lang/invoke/MethodHandle" ∧ yX4_pull.cls ≠ "java/lang/invoke/VarHandle" ∧ (parseMethodDescriptor yX4_pull.desc).map (fun d => d.parameters.length) = some 0 := by decide +kernel
def b_X4_pull_79 (d : Nat) (x0 : Nat) (s0 : Nat) (s1 : Int32) (w : Wd) : Option (Wd × Unit) :=
  (f_X4_include d x0 (gR (sI w s0 14 s1) x0 8) (sI w s0 14 s1)).bind fun r1 =>
  (f_X4_include d x0 (gR r1.1 x0 9) r1.1).bind fun r2 =>
  some (r2.1, ())
def b_X4_pull_54 (d : Nat) (x0 : Nat) (s0 : Nat) (s1 : Int32) (w : Wd) : Option (Wd × Unit) :=
  (gR (sI w s0 13 s1) x0 9).elim
    (b_X4_pull_79 d x0 x0 (gI (sI w s0 13 s1) x0 1) (sI w s0 13 s1))
    fun a1 =>
    b_X4_pull_79 d x0 x0 (gI (sI w s0 13 s1) a1 14) (sI w s0 13 s1)
def b_X4_pull_13 (d : Nat) (x0 : Nat) (s0 : Nat) (s1 : Int32) (w : Wd) : Option (Wd × Unit) :=
  (gR (sI (sI (sI w s0 10 s1) x0 11 (gI (sI w s0 10 s1) x0 2)) x0 12 (gI (sI (sI w s0 10 s1) x0 11 (gI (sI w s0 10 s1) x0 2)) x0 3)) x0 8).elim
    (b_X4_pull_54 d x0 x0 (gI (sI (sI (sI w s0 10 s1) x0 11 (gI (sI w s0 10 s1) x0 2)) x0 12 (gI (sI (sI w s0 10 s1) x0 11 (gI (sI w s0 10 s1) x0 2)) x0 3)) x0 1) (sI (sI (sI w s0 10 s1) x0 11 (gI (sI w s0 10 s1) x0 2)) x0 12 (gI (sI (sI w s0 10 s1) x0 11 (gI (sI w s0 10 s1) x0 2)) x0 3)))
    fun a1 =>
    b_X4_pull_54 d x0 x0 (gI (sI (sI (sI w s0 10 s1) x0 11 (gI (sI w s0 10 s1) x0 2)) x0 12 (gI (sI (sI w s0 10 s1) x0 11 (gI (sI w s0 10 s1) x0 2)) x0 3)) a1 13) (sI (sI (sI w s0 10 s1) x0 11 (gI (sI w s0 10 s1) x0 2)) x0 12 (gI (sI (sI w s0 10 s1) x0 11 (gI (sI w s0 10 s1) x0 2)) x0 3))
def f_X4_pull (d : Nat) (a0 : Nat) (w : Wd) : Option (Wd × Unit) :=
  match d with
  | 0 => none
  | d + 1 =>
    if (gI w a0 6) = 0 then
      b_X4_pull_13 d a0 a0 1 w
    else
      b_X4_pull_13 d a0 a0 0 w
theorem sb_X4_pull_79 {G : Gx} (hG : GW G) {M : Mx} (hl : (mL M).stackTraces = false) {w0 : Wd} {d : Nat} (K : Cx (G, true, M, 1, w0) cX4_pull "IntervalTree$Node" (d + 1)) (hr : (mH M).sig.returnType = none) (hnm : (mH M).name = yX4_pull.name) (hxt : ∀ x ∈ (mC M).exceptionTable.toList, False) (hnd : (mS M).methodNamed? yX4_pull = some (mM M)) : ∀ (x0 : Nat) (s0 : Nat) (s1 : Int32) (w : Wd) (fs1 : Bool), Jf (G, true, M, 1, w0) (rrV G pU) (b_X4_pull_79 d x0 s0 s1 w) w 79 [some (aR 4 (some x0))] [aB fs1 s1, aR 4 (some s0)] := by
  intro x0 s0 s1 w fs1
  refine j_putI (k := 14) K dX4_pull_79 rfl rfl q566 rfl (Or.inl rfl) rfl rfl rfl rfl ?_
  refine j_aload_n K dX4_pull_82 rfl ?_
  refine j_aload_n K dX4_pull_83 rfl ?_
  refine j_getR (k := 8) K dX4_pull_84 rfl rfl rfl q554 rfl rfl (by decide) rfl ?_
  refine j_callV _ K (sim_X4_include hG hl d x0 (gR (sI w s0 14 s1) x0 8) (sI w s0 14 s1)) dX4_pull_87 rfl rfl q335 q337 qs9 q102 q339 pm_X4_include rfl rfl rfl rfl rfl (fun r1 _ => ?_)
  refine j_aload_n K dX4_pull_90 rfl ?_
  refine j_aload_n K dX4_pull_91 rfl ?_
  refine j_getR (k := 9) K dX4_pull_92 rfl rfl rfl q556 rfl rfl (by decide) rfl ?_
  refine j_callV _ K (sim_X4_include hG hl d x0 (gR r1.1 x0 9) r1.1) dX4_pull_95 rfl rfl q335 q337 qs9 q102 q339 pm_X4_include rfl rfl rfl rfl rfl (fun r2 _ => ?_)
  exact j_vret K hr dX4_pull_98
theorem sb_X4_pull_54 {G : Gx} (hG : GW G) {M : Mx} (hl : (mL M).stackTraces = false) {w0 : Wd} {d : Nat} (K : Cx (G, true, M, 1, w0) cX4_pull "IntervalTree$Node" (d + 1)) (hr : (mH M).sig.returnType = none) (hnm : (mH M).name = yX4_pull.name) (hxt : ∀ x ∈ (mC M).exceptionTable.toList, False) (hnd : (mS M).methodNamed? yX4_pull = some (mM M)) : ∀ (x0 : Nat) (s0 : Nat) (s1 : Int32) (w : Wd) (fs1 : Bool), Jf (G, true, M, 1, w0) (rrV G pU) (b_X4_pull_54 d x0 s0 s1 w) w 54 [some (aR 4 (some x0))] [aB fs1 s1, aR 4 (some s0)] := by
  intro x0 s0 s1 w fs1
  refine j_putI (k := 13) K dX4_pull_54 rfl rfl q564 rfl (Or.inl rfl) rfl rfl rfl rfl ?_
  refine j_aload_n K dX4_pull_57 rfl ?_
  refine j_aload_n K dX4_pull_58 rfl ?_
  refine j_getR (k := 9) K dX4_pull_59 rfl rfl rfl q556 rfl rfl (by decide) rfl ?_
  refine j_ifnonnull 72 K dX4_pull_62 (by decide) (fun a1 ha1 => ?_) (fun _ => ?_)
  · refine j_aload_n K dX4_pull_72 rfl ?_
    refine j_getR (k := 9) K dX4_pull_73 rfl rfl rfl q556 rfl rfl (by decide) rfl ?_
    refine j_getI (k := 14) K dX4_pull_76 rfl rfl rfl q566 rfl rfl ha1 ?_
    exact sb_X4_pull_79 hG hl K hr hnm hxt hnd _ _ _ _ _
  · refine j_aload_n K dX4_pull_65 rfl ?_
    refine j_getI (k := 1) K dX4_pull_66 rfl rfl rfl q542 rfl rfl rfl ?_
    refine j_goto 79 K dX4_pull_69 (by decide) ?_
    exact sb_X4_pull_79 hG hl K hr hnm hxt hnd _ _ _ _ _
theorem sb_X4_pull_13 {G : Gx} (hG : GW G) {M : Mx} (hl : (mL M).stackTraces = false) {w0 : Wd} {d : Nat} (K : Cx (G, true, M, 1, w0) cX4_pull "IntervalTree$Node" (d + 1)) (hr : (mH M).sig.returnType = none) (hnm : (mH M).name = yX4_pull.name) (hxt : ∀ x ∈ (mC M).exceptionTable.toList, False) (hnd : (mS M).methodNamed? yX4_pull = some (mM M)) : ∀ (x0 : Nat) (s0 : Nat) (s1 : Int32) (w : Wd), Jf (G, true, M, 1, w0) (rrV G pU) (b_X4_pull_13 d x0 s0 s1 w) w 13 [some (aR 4 (some x0))] [aB true s1, aR 4 (some s0)] := by
  intro x0 s0 s1 w
  refine j_putI (k := 10) K dX4_pull_13 rfl rfl q558 rfl (Or.inl rfl) rfl rfl rfl rfl ?_
  refine j_aload_n K dX4_pull_16 rfl ?_
  refine j_aload_n K dX4_pull_17 rfl ?_
  refine j_getI (k := 2) K dX4_pull_18 rfl rfl rfl q544 rfl rfl rfl ?_
  refine j_putI (k := 11) K dX4_pull_21 rfl rfl q560 rfl (Or.inl rfl) rfl rfl rfl rfl ?_
  refine j_aload_n K dX4_pull_24 rfl ?_
  refine j_aload_n K dX4_pull_25 rfl ?_
  refine j_getI (k := 3) K dX4_pull_26 rfl rfl rfl q546 rfl rfl rfl ?_
  refine j_putI (k := 12) K dX4_pull_29 rfl rfl q562 rfl (Or.inl rfl) rfl rfl rfl rfl ?_
  refine j_aload_n K dX4_pull_32 rfl ?_
  refine j_aload_n K dX4_pull_33 rfl ?_
  refine j_getR (k := 8) K dX4_pull_34 rfl rfl rfl q554 rfl rfl (by decide) rfl ?_
  refine j_ifnonnull 47 K dX4_pull_37 (by decide) (fun a1 ha1 => ?_) (fun _ => ?_)
  · refine j_aload_n K dX4_pull_47 rfl ?_
    refine j_getR (k := 8) K dX4_pull_48 rfl rfl rfl q554 rfl rfl (by decide) rfl ?_
    refine j_getI (k := 13) K dX4_pull_51 rfl rfl rfl q564 rfl rfl ha1 ?_
    exact sb_X4_pull_54 hG hl K hr hnm hxt hnd _ _ _ _ _
  · refine j_aload_n K dX4_pull_40 rfl ?_
    refine j_getI (k := 1) K dX4_pull_41 rfl rfl rfl q542 rfl rfl rfl ?_
    refine j_goto 54 K dX4_pull_44 (by decide) ?_
    exact sb_X4_pull_54 hG hl K hr hnm hxt hnd _ _ _ _ _
theorem sim_X4_pull {G : Gx} (hG : GW G) {l : Launch} (hl : l.stackTraces = false) (d : Nat) (a0 : Nat) (w : Wd) : Mt G true l yX4_pull (ws_ yX4_pull cX4_pull 1 (none)) d (rrV G pU) [aR 4 (some a0)] w (f_X4_pull d a0 w) := by
  refine Mt.of (own := "IntervalTree$Node") hG hl (by decide +kernel) rfl rfl ?_
  intro M hM hr hnm hxt hnd K
  subst hM
  cases d with
  | zero => exact j_none
  | succ d =>
    refine j_aload_n K dX4_pull_0 rfl ?_
    refine j_aload_n K dX4_pull_1 rfl ?_
    refine j_getZ (k := 6) K dX4_pull_2 rfl rfl rfl q551 rfl rfl rfl rfl ?_
    refine j_if_eq 12 K dX4_pull_5 (by decide) ?_ ?_
    · refine j_iconstZ K dX4_pull_12 rfl (Or.inr rfl) ?_
      exact sb_X4_pull_13 hG hl K hr hnm hxt hnd _ _ _ _
    · refine j_iconstZ K dX4_pull_8 rfl (Or.inl rfl) ?_
      refine j_goto 13 K dX4_pull_9 (by decide) ?_
      exact sb_X4_pull_13 hG hl K hr hnm hxt hnd _ _ _ _

theorem pm_X1_build : yX1_build.cls = RX1 ∧ yX1_build.cls ≠ "java/lang/invoke/MethodHandle" ∧ yX1_build.cls ≠ "java/lang/invoke/VarHandle" ∧ (parseMethodDescriptor yX1_build.desc).map (fun d => d.parameters.length) = some 4 := by decide +kernel
def b_X1_build_111 (d : Nat) (g_X1_build : Int32 → Int32 → Int32 → Int32 → Wd → Option (Wd × Option Nat)) (x6 : Option Nat) (w : Wd) : Option (Wd × Option Nat) :=
  (x6).bind fun a7 =>
  (f_X4_pull d a7 w).bind fun r8 =>
  some (r8.1, x6)
def b_X1_build_93 (d : Nat) (g_X1_build : Int32 → Int32 → Int32 → Int32 → Wd → Option (Wd × Option Nat)) (x6 : Option Nat) (w : Wd) : Option (Wd × Option Nat) :=
  (x6).bind fun a6 =>
  (gR w a6 9).elim
    (b_X1_build_111 d g_X1_build x6 w)
    fun a7 =>
    b_X1_build_111 d g_X1_build x6 (sR w a7 7 x6)
def b_X1_build_36 (d : Nat) (g_X1_build : Int32 → Int32 → Int32 → Int32 → Wd → Option (Wd × Option Nat)) (x1 : Int32) (x2 : Int32) (x3 : Int32) (x4 : Int32) (x5 : Int32) (x6 : Option Nat) (s0 : Option Nat) (s1 : Int32) (w : Wd) : Option (Wd × Option Nat) :=
  (s0).bind fun a2 =>
  (g_X1_build x1 x5 (x3 + 1) x4 (sI w a2 5 s1)).bind fun r3 =>
  (x6).bind fun a4 =>
  (g_X1_build (x5 + 1) x2 (x3 + 1) x4 (sR r3.1 a4 8 r3.2)).bind fun r5 =>
  (gR (sR r5.1 a4 9 r5.2) a4 8).elim
    (b_X1_build_93 d g_X1_build x6 (sR r5.1 a4 9 r5.2))
    fun a6 =>
    b_X1_build_93 d g_X1_build x6 (sR (sR r5.1 a4 9 r5.2) a6 7 x6)
def fB_X1_build (d : Nat) (g_X1_build : Int32 → Int32 → Int32 → Int32 → Wd → Option (Wd × Option Nat)) (p1 : Int32) (p2 : Int32) (p3 : Int32) (p4 : Int32) (w : Wd) : Option (Wd × Option Nat) :=
  if p1 = p2 then
    some (w, none)
  else
    if ib ((p1 + p2) / 2) 100 = true then
      if p3 = p4 then
        b_X1_build_36 d g_X1_build p1 p2 p3 p4 ((p1 + p2) / 2) (gR w 19 ((p1 + p2) / 2).toNatClampNeg) (gR w 19 ((p1 + p2) / 2).toNatClampNeg) 1 w
      else
        b_X1_build_36 d g_X1_build p1 p2 p3 p4 ((p1 + p2) / 2) (gR w 19 ((p1 + p2) / 2).toNatClampNeg) (gR w 19 ((p1 + p2) / 2).toNatClampNeg) 0 w
    else none
theorem sb_X1_build_111 {G : Gx} (hG : GW G) {M : Mx} (hl : (mL M).stackTraces = false) {w0 : Wd} {d : Nat} (K : Cx (G, true, M, 7, w0) cX1_build "IntervalTree" (d + 1)) (hr : (mH M).sig.returnType = some (.object "IntervalTree$Node")) (hnm : (mH M).name = yX1_build.name) (hxt : ∀ x ∈ (mC M).exceptionTable.toList, False) (hnd : (mS M).methodNamed? yX1_build = some (mM M)) {g_X1_build : Int32 → Int32 → Int32 → Int32 → Wd → Option (Wd × Option Nat)} (hg_X1_build : ∀ (p1 : Int32) (p2 : Int32) (p3 : Int32) (p4 : Int32) (w : Wd) (fp1 : Bool) (fp2 : Bool) (fp3 : Bool) (fp4 : Bool), Mt G true (mL M) yX1_build (ws_ yX1_build cX1_build 7 (some (.object "IntervalTree$Node"))) d (rrV G (pR 4)) [aR 1 (some 8), aB fp1 p1, aB fp2 p2, aB fp3 p3, aB fp4 p4] w (g_X1_build p1 p2 p3 p4 w)) : ∀ (x6 : Option Nat) (w : Wd), Jf (G, true, M, 7, w0) (rrV G (pR 4)) (b_X1_build_111 d g_X1_build x6 w) w 111 [none, none, none, none, none, none, some (aR 4 x6)] [] := by
  intro x6 w
  refine j_aload K dX1_build_111 rfl ?_
  refine j_nn (fun a7 ha7 => ?_)
  refine j_callV _ K (sim_X4_pull hG hl d a7 w) dX1_build_113 rfl rfl q331 q332 q333 q102 q334 pm_X4_pull rfl rfl rfl ha7 rfl (fun r8 _ => ?_)
  refine j_aload K dX1_build_116 rfl ?_
  exact j_aret K hr (Or.inl ⟨_, rfl⟩) dX1_build_118
theorem sb_X1_build_93 {G : Gx} (hG : GW G) {M : Mx} (hl : (mL M).stackTraces = false) {w0 : Wd} {d : Nat} (K : Cx (G, true, M, 7, w0) cX1_build "IntervalTree" (d + 1)) (hr : (mH M).sig.returnType = some (.object "IntervalTree$Node")) (hnm : (mH M).name = yX1_build.name) (hxt : ∀ x ∈ (mC M).exceptionTable.toList, False) (hnd : (mS M).methodNamed? yX1_build = some (mM M)) {g_X1_build : Int32 → Int32 → Int32 → Int32 → Wd → Option (Wd × Option Nat)} (hg_X1_build : ∀ (p1 : Int32) (p2 : Int32) (p3 : Int32) (p4 : Int32) (w : Wd) (fp1 : Bool) (fp2 : Bool) (fp3 : Bool) (fp4 : Bool), Mt G true (mL M) yX1_build (ws_ yX1_build cX1_build 7 (some (.object "IntervalTree$Node"))) d (rrV G (pR 4)) [aR 1 (some 8), aB fp1 p1, aB fp2 p2, aB fp3 p3, aB fp4 p4] w (g_X1_build p1 p2 p3 p4 w)) : ∀ (x6 : Option Nat) (w : Wd), Jf (G, true, M, 7, w0) (rrV G (pR 4)) (b_X1_build_93 d g_X1_build x6 w) w 93 [none, none, none, none, none, none, some (aR 4 x6)] [] := by
  intro x6 w
  refine j_aload K dX1_build_93 rfl ?_
  refine j_nn (fun a6 ha6 => ?_)
  refine j_getR (k := 9) K dX1_build_95 rfl rfl rfl q557 rfl rfl (by decide) ha6 ?_
  refine j_ifnull 111 K dX1_build_98 (by decide) (fun _ => ?_) (fun a7 ha7 => ?_)
  · exact j_wk (sb_X1_build_111 hG hl K hr hnm hxt hnd hg_X1_build _ _) ⟨rfl, trivial⟩
  · refine j_aload K dX1_build_101 rfl ?_
    refine j_getR (k := 9) K dX1_build_103 rfl rfl rfl q557 rfl rfl (by decide) ha6 ?_
    refine j_aload K dX1_build_106 rfl ?_
    refine j_putR (k := 7) K dX1_build_108 rfl rfl q553 rfl (Or.inl rfl) rfl (Or.inl ⟨_, rfl⟩) rfl (by decide) rfl (fun _ => by decide +kernel) ha7 ?_
    exact j_wk (sb_X1_build_111 hG hl K hr hnm hxt hnd hg_X1_build _ _) ⟨rfl, trivial⟩
theorem sb_X1_build_36 {G : Gx} (hG : GW G) {M : Mx} (hl : (mL M).stackTraces = false) {w0 : Wd} {d : Nat} (K : Cx (G, true, M, 7, w0) cX1_build "IntervalTree" (d + 1)) (hr : (mH M).sig.returnType = some (.object "IntervalTree$Node")) (hnm : (mH M).name = yX1_build.name) (hxt : ∀ x ∈ (mC M).exceptionTable.toList, False) (hnd : (mS M).methodNamed? yX1_build = some (mM M)) {g_X1_build : Int32 → Int32 → Int32 → Int32 → Wd → Option (Wd × Option Nat)} (hg_X1_build : ∀ (p1 : Int32) (p2 : Int32) (p3 : Int32) (p4 : Int32) (w : Wd) (fp1 : Bool) (fp2 : Bool) (fp3 : Bool) (fp4 : Bool), Mt G true (mL M) yX1_build (ws_ yX1_build cX1_build 7 (some (.object "IntervalTree$Node"))) d (rrV G (pR 4)) [aR 1 (some 8), aB fp1 p1, aB fp2 p2, aB fp3 p3, aB fp4 p4] w (g_X1_build p1 p2 p3 p4 w)) : ∀ (x1 : Int32) (x2 : Int32) (x3 : Int32) (x4 : Int32) (x5 : Int32) (x6 : Option Nat) (s0 : Option Nat) (s1 : Int32) (w : Wd) (fx1 : Bool) (fx2 : Bool) (fx3 : Bool) (fx4 : Bool) (fx5 : Bool), Jf (G, true, M, 7, w0) (rrV G (pR 4)) (b_X1_build_36 d g_X1_build x1 x2 x3 x4 x5 x6 s0 s1 w) w 36 [some (aR 1 (some 8)), some (aB fx1 x1), some (aB fx2 x2), some (aB fx3 x3), some (aB fx4 x4), some (aB fx5 x5), some (aR 4 x6)] [aB true s1, aR 4 s0] := by
  intro x1 x2 x3 x4 x5 x6 s0 s1 w fx1 fx2 fx3 fx4 fx5
  refine j_nn (fun a2 ha2 => ?_)
  refine j_putZ (k := 5) K dX1_build_36 rfl rfl q550 rfl (Or.inl rfl) rfl rfl ha2 ?_
  refine j_aload K dX1_build_39 rfl ?_
  refine j_aload_n K dX1_build_41 rfl ?_
  refine j_iload_n K dX1_build_42 rfl ?_
  refine j_iload K dX1_build_43 rfl ?_
  refine j_iload_n K dX1_build_45 rfl ?_
  refine j_iconstZ K dX1_build_46 rfl (Or.inr rfl) ?_
  refine j_iadd K dX1_build_47 ?_
  refine j_iload K dX1_build_48 rfl ?_
  refine j_callV _ K (hg_X1_build x1 x5 (x3 + 1) x4 (sI w a2 5 s1) fx1 fx5 false fx4) dX1_build_50 rfl rfl q327 q329 qs8 q93 q330 pm_X1_build rfl rfl rfl rfl rfl (fun r3 _ => ?_)
  refine j_nn (fun a4 ha4 => ?_)
  refine j_putR (k := 8) K dX1_build_53 rfl rfl q555 rfl (Or.inl rfl) rfl (Or.inl ⟨_, rfl⟩) rfl (by decide) rfl (fun _ => by decide +kernel) ha4 ?_
  refine j_aload K dX1_build_56 rfl ?_
  refine j_aload_n K dX1_build_58 rfl ?_
  refine j_iload K dX1_build_59 rfl ?_
  refine j_iconstZ K dX1_build_61 rfl (Or.inr rfl) ?_
  refine j_iadd K dX1_build_62 ?_
  refine j_iload_n K dX1_build_63 rfl ?_
  refine j_iload_n K dX1_build_64 rfl ?_
  refine j_iconstZ K dX1_build_65 rfl (Or.inr rfl) ?_
  refine j_iadd K dX1_build_66 ?_
  refine j_iload K dX1_build_67 rfl ?_
  refine j_callV _ K (hg_X1_build (x5 + 1) x2 (x3 + 1) x4 (sR r3.1 a4 8 r3.2) false fx2 false fx4) dX1_build_69 rfl rfl q327 q329 qs8 q93 q330 pm_X1_build rfl rfl rfl rfl rfl (fun r5 _ => ?_)
  refine j_putR (k := 9) K dX1_build_72 rfl rfl q557 rfl (Or.inl rfl) rfl (Or.inl ⟨_, rfl⟩) rfl (by decide) rfl (fun _ => by decide +kernel) ha4 ?_
  refine j_aload K dX1_build_75 rfl ?_
  refine j_getR (k := 8) K dX1_build_77 rfl rfl rfl q555 rfl rfl (by decide) ha4 ?_
  refine j_ifnull 93 K dX1_build_80 (by decide) (fun _ => ?_) (fun a6 ha6 => ?_)
  · exact j_wk (sb_X1_build_93 hG hl K hr hnm hxt hnd hg_X1_build _ _) ⟨rfl, trivial⟩
  · refine j_aload K dX1_build_83 rfl ?_
    refine j_getR (k := 8) K dX1_build_85 rfl rfl rfl q555 rfl rfl (by decide) ha4 ?_
    refine j_aload K dX1_build_88 rfl ?_
    refine j_putR (k := 7) K dX1_build_90 rfl rfl q553 rfl (Or.inl rfl) rfl (Or.inl ⟨_, rfl⟩) rfl (by decide) rfl (fun _ => by decide +kernel) ha6 ?_
    exact j_wk (sb_X1_build_93 hG hl K hr hnm hxt hnd hg_X1_build _ _) ⟨rfl, trivial⟩
theorem simB_X1_build {G : Gx} (hG : GW G) {l : Launch} (hl : l.stackTraces = false) (d : Nat) {g_X1_build : Int32 → Int32 → Int32 → Int32 → Wd → Option (Wd × Option Nat)} (hg_X1_build : ∀ (p1 : Int32) (p2 : Int32) (p3 : Int32) (p4 : Int32) (w : Wd) (fp1 : Bool) (fp2 : Bool) (fp3 : Bool) (fp4 : Bool), Mt G true l yX1_build (ws_ yX1_build cX1_build 7 (some (.object "IntervalTree$Node"))) d (rrV G (pR 4)) [aR 1 (some 8), aB fp1 p1, aB fp2 p2, aB fp3 p3, aB fp4 p4] w (g_X1_build p1 p2 p3 p4 w)) (p1 : Int32) (p2 : Int32) (p3 : Int32) (p4 : Int32) (w : Wd) (fp1 : Bool) (fp2 : Bool) (fp3 : Bool) (fp4 : Bool) : Mt G true l yX1_build (ws_ yX1_build cX1_build 7 (some (.object "IntervalTree$Node"))) (d + 1) (rrV G (pR 4)) [aR 1 (some 8), aB fp1 p1, aB fp2 p2, aB fp3 p3, aB fp4 p4] w (fB_X1_build d g_X1_build p1 p2 p3 p4 w) := by
  refine Mt.of (own := "IntervalTree") hG hl (by decide +kernel) rfl rfl ?_
  intro M hM hr hnm hxt hnd K
  subst hM
  refine j_iload_n K dX1_build_0 rfl ?_
  refine j_iload_n K dX1_build_1 rfl ?_
  refine j_icmp_ne 7 K dX1_build_2 (by decide) ?_ ?_
  · refine j_iload_n K dX1_build_7 rfl ?_
    refine j_iload_n K dX1_build_8 rfl ?_
    refine j_iadd K dX1_build_9 ?_
    refine j_iconst (x := 2) K dX1_build_10 rfl ?_
    refine j_idiv K dX1_build_11 (by decide) ?_
    refine j_istore K dX1_build_12 rfl rfl ?_
    refine j_aload_n K dX1_build_14 rfl ?_
    refine j_getA (k := 12) 4 K dX1_build_15 rfl rfl rfl q193 rfl rfl (by decide) rfl rfl rfl ?_
    refine j_iload K dX1_build_18 rfl ?_
    refine j_ib (fun hi1 => ?_)
    refine j_aal K dX1_build_20 rfl (fun _ => rfl) (by decide) rfl rfl (fxLen 4 rfl rfl) hi1 ?_
    refine j_astore K dX1_build_21 rfl rfl ?_
    refine j_aload K dX1_build_23 rfl ?_
    refine j_iload_n K dX1_build_25 rfl ?_
    refine j_iload K dX1_build_26 rfl ?_
    refine j_icmp_ne 35 K dX1_build_28 (by decide) ?_ ?_
    · refine j_iconstZ K dX1_build_35 rfl (Or.inl rfl) ?_
      exact sb_X1_build_36 hG hl K hr hnm hxt hnd hg_X1_build _ _ _ _ _ _ _ _ _ _ _ _ _ _
    · refine j_iconstZ K dX1_build_31 rfl (Or.inr rfl) ?_
      refine j_goto 36 K dX1_build_32 (by decide) ?_
      exact sb_X1_build_36 hG hl K hr hnm hxt hnd hg_X1_build _ _ _ _ _ _ _ _ _ _ _ _ _ _
  · refine j_null 4 K dX1_build_5 ?_
    exact j_aret K hr (Or.inl ⟨_, rfl⟩) dX1_build_6
def f_X1_build : Nat → Int32 → Int32 → Int32 → Int32 → Wd → Option (Wd × Option Nat)
  | 0 => fun _ _ _ _ _ => none
  | d + 1 => fB_X1_build d (f_X1_build d)
theorem sim_X1_build {G : Gx} (hG : GW G) {l : Launch} (hl : l.stackTraces = false) : ∀ (d : Nat) (p1 : Int32) (p2 : Int32) (p3 : Int32) (p4 : Int32) (w : Wd) (fp1 : Bool) (fp2 : Bool) (fp3 : Bool) (fp4 : Bool), Mt G true l yX1_build (ws_ yX1_build cX1_build 7 (some (.object "IntervalTree$Node"))) d (rrV G (pR 4)) [aR 1 (some 8), aB fp1 p1, aB fp2 p2, aB fp3 p3, aB fp4 p4] w (f_X1_build d p1 p2 p3 p4 w) := by
  intro d
  induction d with
  | zero => intros; exact fun _ h => by cases h
  | succ d ih => exact simB_X1_build hG hl d ih

theorem pm_X1_rebuildTree : yX1_rebuildTree.cls = RX1 ∧ yX1_rebuildTree.cls ≠ "java/lang/invoke/MethodHandle" ∧ yX1_rebuildTree.cls ≠ "java/lang/invoke/VarHandle" ∧ (parseMethodDescriptor yX1_rebuildTree.desc).map (fun d => d.parameters.length) = some 0 := by decide +kernel
def b_X1_rebuildTree_75 (d : Nat) (x1 : Int32) (w : Wd) : Option (Wd × Int32) :=
  some (sI (sI (sI (sI w 8 6 (gI w 8 13)) 8 7 0) 8 9 ((gI (sI (sI w 8 6 (gI w 8 13)) 8 7 0) 8 9) + 1)) 8 10 ((gI (sI (sI (sI w 8 6 (gI w 8 13)) 8 7 0) 8 9 ((gI (sI (sI w 8 6 (gI w 8 13)) 8 7 0) 8 9) + 1)) 8 10) + (gI (sI (sI (sI w 8 6 (gI w 8 13)) 8 7 0) 8 9 ((gI (sI (sI w 8 6 (gI w 8 13)) 8 7 0) 8 9) + 1)) 8 13)), x1)
def b_X1_rebuildTree_25 (d : Nat) : Nat → Int32 → Int32 → Wd → Option (Wd × Int32)
  | 0, _, _, _ => none
  | n + 1, x1, x2, w =>
    if (gI w 8 13) < ((1 <<< ((x2 + 1) &&& 31)) - 1) then
      (f_X1_build d 0 (gI w 8 13) 0 x2 w).bind fun r5 =>
      (gR (sR r5.1 8 4 r5.2) 8 4).elim
        (b_X1_rebuildTree_75 d x1 (sR r5.1 8 4 r5.2))
        fun a6 =>
        b_X1_rebuildTree_75 d x1 (sR (sR r5.1 8 4 r5.2) a6 7 none)
    else
      b_X1_rebuildTree_25 d n x1 (x2 + 1) w
def f_X1_rebuildTree (d : Nat) (w : Wd) : Option (Wd × Int32) :=
  match d with
  | 0 => none
  | d + 1 =>
    (f_X1_collectLive d w).bind fun r1 =>
    if 49 ≤ d then
      (nwB r1.1 28 1 1).bind fun w3 =>
      (f_X1_visitAll d (gR r1.1 8 4) (some (gN r1.1)) (setAs w3 (gN r1.1) 0 [aR 1 (some 8)])).bind fun r4 =>
      b_X1_rebuildTree_25 d FU (gI r1.1 8 7) 0 r4.1
    else none
theorem sb_X1_rebuildTree_75 {G : Gx} (hG : GW G) {M : Mx} (hl : (mL M).stackTraces = false) {w0 : Wd} {d : Nat} (K : Cx (G, true, M, 3, w0) cX1_rebuildTree "IntervalTree" (d + 1)) (hr : (mH M).sig.returnType = some .int) (hnm : (mH M).name = yX1_rebuildTree.name) (hxt : ∀ x ∈ (mC M).exceptionTable.toList, False) (hnd : (mS M).methodNamed? yX1_rebuildTree = some (mM M)) : ∀ (x1 : Int32) (w : Wd) (fx1 : Bool), Jf (G, true, M, 3, w0) (rrV G pI) (b_X1_rebuildTree_75 d x1 w) w 75 [some (aR 1 (some 8)), some (aB fx1 x1), none] [] := by
  intro x1 w fx1
  refine j_aload_n K dX1_rebuildTree_75 rfl ?_
  refine j_aload_n K dX1_rebuildTree_76 rfl ?_
  refine j_getI (k := 13) K dX1_rebuildTree_77 rfl rfl rfl q194 rfl rfl rfl ?_
  refine j_putI (k := 6) K dX1_rebuildTree_80 rfl rfl q187 rfl (Or.inl rfl) rfl rfl rfl rfl ?_
  refine j_aload_n K dX1_rebuildTree_83 rfl ?_
  refine j_iconstZ K dX1_rebuildTree_84 rfl (Or.inl rfl) ?_
  refine j_putI (k := 7) K dX1_rebuildTree_85 rfl rfl q188 rfl (Or.inl rfl) rfl rfl rfl rfl ?_
  refine j_aload_n K dX1_rebuildTree_88 rfl ?_
  refine j_dup K dX1_rebuildTree_89 rfl ?_
  refine j_getI (k := 9) K dX1_rebuildTree_90 rfl rfl rfl q190 rfl rfl rfl ?_
  refine j_iconstZ K dX1_rebuildTree_93 rfl (Or.inr rfl) ?_
  refine j_iadd K dX1_rebuildTree_94 ?_
  refine j_putI (k := 9) K dX1_rebuildTree_95 rfl rfl q190 rfl (Or.inl rfl) rfl rfl rfl rfl ?_
  refine j_aload_n K dX1_rebuildTree_98 rfl ?_
  refine j_dup K dX1_rebuildTree_99 rfl ?_
  refine j_getI (k := 10) K dX1_rebuildTree_100 rfl rfl rfl q191 rfl rfl rfl ?_
  refine j_aload_n K dX1_rebuildTree_103 rfl ?_
  refine j_getI (k := 13) K dX1_rebuildTree_104 rfl rfl rfl q194 rfl rfl rfl ?_
  refine j_iadd K dX1_rebuildTree_107 ?_
  refine j_putI (k := 10) K dX1_rebuildTree_108 rfl rfl q191 rfl (Or.inl rfl) rfl rfl rfl rfl ?_
  refine j_iload_n K dX1_rebuildTree_111 rfl ?_
  exact j_iret K hr dX1_rebuildTree_112
theorem sb_X1_rebuildTree_25 {G : Gx} (hG : GW G) {M : Mx} (hl : (mL M).stackTraces = false) {w0 : Wd} {d : Nat} (K : Cx (G, true, M, 3, w0) cX1_rebuildTree "IntervalTree" (d + 1)) (hr : (mH M).sig.returnType = some .int) (hnm : (mH M).name = yX1_rebuildTree.name) (hxt : ∀ x ∈ (mC M).exceptionTable.toList, False) (hnd : (mS M).methodNamed? yX1_rebuildTree = some (mM M)) : ∀ (n : Nat), ∀ (x1 : Int32) (x2 : Int32) (w : Wd) (fx1 : Bool) (fx2 : Bool), Jf (G, true, M, 3, w0) (rrV G pI) (b_X1_rebuildTree_25 d n x1 x2 w) w 25 [some (aR 1 (some 8)), some (aB fx1 x1), some (aB fx2 x2)] [] := by
  intro n
  induction n with
  | zero => intros; exact j_none
  | succ n ih =>
    intro x1 x2 w fx1 fx2
    refine j_iconstZ K dX1_rebuildTree_25 rfl (Or.inr rfl) ?_
    refine j_iload_n K dX1_rebuildTree_26 rfl ?_
    refine j_iconstZ K dX1_rebuildTree_27 rfl (Or.inr rfl) ?_
    refine j_iadd K dX1_rebuildTree_28 ?_
    refine j_ishl K dX1_rebuildTree_29 ?_
    refine j_iconstZ K dX1_rebuildTree_30 rfl (Or.inr rfl) ?_
    refine j_isub K dX1_rebuildTree_31 ?_
    refine j_aload_n K dX1_rebuildTree_32 rfl ?_
    refine j_getI (k := 13) K dX1_rebuildTree_33 rfl rfl rfl q194 rfl rfl rfl ?_
    refine j_icmp_gt 45 K dX1_rebuildTree_36 (by decide) ?_ ?_
    · refine j_aload_n K dX1_rebuildTree_45 rfl ?_
      refine j_aload_n K dX1_rebuildTree_46 rfl ?_
      refine j_iconstZ K dX1_rebuildTree_47 rfl (Or.inl rfl) ?_
      refine j_aload_n K dX1_rebuildTree_48 rfl ?_
      refine j_getI (k := 13) K dX1_rebuildTree_49 rfl rfl rfl q194 rfl rfl rfl ?_
      refine j_iconstZ K dX1_rebuildTree_52 rfl (Or.inl rfl) ?_
      refine j_iload_n K dX1_rebuildTree_53 rfl ?_
      refine j_callV _ K (sim_X1_build hG hl d 0 (gI w 8 13) 0 x2 w true false true fx2) dX1_rebuildTree_54 rfl rfl q327 q329 qs8 q93 q330 pm_X1_build rfl rfl rfl rfl rfl (fun r5 _ => ?_)
      refine j_putR (k := 4) K dX1_rebuildTree_57 rfl rfl q185 rfl (Or.inl rfl) rfl (Or.inl ⟨_, rfl⟩) rfl (by decide) rfl (fun _ => by decide +kernel) rfl ?_
      refine j_aload_n K dX1_rebuildTree_60 rfl ?_
      refine j_getR (k := 4) K dX1_rebuildTree_61 rfl rfl rfl q185 rfl rfl (by decide) rfl ?_
      refine j_ifnull 75 K dX1_rebuildTree_64 (by decide) (fun _ => ?_) (fun a6 ha6 => ?_)
      · exact j_wk (sb_X1_rebuildTree_75 hG hl K hr hnm hxt hnd _ _ _) ⟨rfl, rfl, trivial⟩
      · refine j_aload_n K dX1_rebuildTree_67 rfl ?_
        refine j_getR (k := 4) K dX1_rebuildTree_68 rfl rfl rfl q185 rfl rfl (by decide) rfl ?_
        refine j_null 4 K dX1_rebuildTree_71 ?_
        refine j_putR (k := 7) K dX1_rebuildTree_72 rfl rfl q553 rfl (Or.inl rfl) rfl (Or.inl ⟨_, rfl⟩) rfl (by decide) rfl (fun _ => by decide +kernel) ha6 ?_
        exact j_wk (sb_X1_rebuildTree_75 hG hl K hr hnm hxt hnd _ _ _) ⟨rfl, rfl, trivial⟩
    · refine j_iinc (y := 1) K dX1_rebuildTree_39 rfl rfl rfl rfl ?_
      refine j_goto 25 K dX1_rebuildTree_42 (by decide) ?_
      exact ih _ _ _ _ _
theorem sim_X1_rebuildTree {G : Gx} (hG : GW G) {l : Launch} (hl : l.stackTraces = false) (d : Nat) (w : Wd) : Mt G true l yX1_rebuildTree (ws_ yX1_rebuildTree cX1_rebuildTree 3 (some .int)) d (rrV G pI) [aR 1 (some 8)] w (f_X1_rebuildTree d w) := by
  refine Mt.of (own := "IntervalTree") hG hl (by decide +kernel) rfl rfl ?_
  intro M hM hr hnm hxt hnd K
  subst hM
  cases d with
  | zero => exact j_none
  | succ d =>
    refine j_aload_n K dX1_rebuildTree_0 rfl ?_
    refine j_callV _ K (sim_X1_collectLive hG hl d w) dX1_rebuildTree_1 rfl rfl q297 q299 qs3 q93 q300 pm_X1_collectLive rfl rfl rfl rfl rfl (fun r1 _ => ?_)
    refine j_aload_n K dX1_rebuildTree_4 rfl ?_
    refine j_getI (k := 7) K dX1_rebuildTree_5 rfl rfl rfl q188 rfl rfl rfl ?_
    refine j_istore_n K dX1_rebuildTree_8 rfl rfl ?_
    refine j_aload_n K dX1_rebuildTree_9 rfl ?_
    refine j_aload_n K dX1_rebuildTree_10 rfl ?_
    refine j_getR (k := 4) K dX1_rebuildTree_11 rfl rfl rfl q185 rfl rfl (by decide) rfl ?_
    refine j_aload_n K dX1_rebuildTree_14 rfl ?_
    refine j_if (fun hd2 => ?_)
    refine j_indyM (kd := 28) (t := 52) [aR 1 (some 8)] K hnd (by decide) (by decide) rfl rfl rfl dX1_rebuildTree_15 rfl rfl (by decide) rfl hd2 rfl rfl (fun w3 => ?_)
    refine j_callV _ K (sim_X1_visitAll hG hl d (gR r1.1 8 4) (some (gN r1.1)) (setAs w3 (gN r1.1) 0 [aR 1 (some 8)])) dX1_rebuildTree_20 rfl rfl q308 q310 qs6 q93 q311 pm_X1_visitAll rfl rfl rfl rfl rfl (fun r4 _ => ?_)
    refine j_iconstZ K dX1_rebuildTree_23 rfl (Or.inl rfl) ?_
    refine j_istore_n K dX1_rebuildTree_24 rfl rfl ?_
    exact sb_X1_rebuildTree_25 hG hl K hr hnm hxt hnd FU _ _ _ _ _

theorem pm_X1_rebuild : yX1_rebuild.cls = RX1 ∧ yX1_rebuild.cls ≠ "java/lang/invoke/MethodHandle" ∧ yX1_rebuild.cls ≠ "java/lang/invoke/VarHandle" ∧ (parseMethodDescriptor yX1_rebuild.desc).map (fun d => d.parameters.length) = some 0 := by decide +kernel
def f_X1_rebuild (d : Nat) (w : Wd) : Option (Wd × Int32) :=
  match d with
  | 0 => none
  | d + 1 =>
    (f_X1_rebuildTree d w).bind fun r1 =>
    some (r1.1, r1.2)
theorem sim_X1_rebuild {G : Gx} (hG : GW G) {l : Launch} (hl : l.stackTraces = false) (d : Nat) (w : Wd) : Mt G true l yX1_rebuild (ws_ yX1_rebuild cX1_rebuild 1 (some .int)) d (rrV G pI) [aR 1 (some 8)] w (f_X1_rebuild d w) := by
  refine Mt.of (own := "IntervalTree") hG hl (by decide +kernel) rfl rfl ?_
  intro M hM hr hnm hxt hnd K
  subst hM
  cases d with
  | zero => exact j_none
  | succ d =>
    refine j_aload_n K dX1_rebuild_0 rfl ?_
    refine j_callV _ K (sim_X1_rebuildTree hG hl d w) dX1_rebuild_1 rfl rfl q293 q295 qs2 q93 q296 pm_X1_rebuildTree rfl rfl rfl rfl rfl (fun r1 _ => ?_)
    exact j_iret K hr dX1_rebuild_4

theorem pm_X1_size : yX1_size.cls = RX1 ∧ yX1_size.cls ≠ "java/lang/invoke/MethodHandle" ∧ yX1_size.cls ≠ "java/lang/invoke/VarHandle" ∧ (parseMethodDescriptor yX1_size.desc).map (fun d => d.parameters.length) = some 0 := by decide +kernel
def f_X1_size (d : Nat) (w : Wd) : Option (Wd × Int32) :=
  match d with
  | 0 => none
  | d + 1 =>
    some (w, ((gI w 8 6) - (gI w 8 7)))
theorem sim_X1_size {G : Gx} (hG : GW G) {l : Launch} (hl : l.stackTraces = false) (d : Nat) (w : Wd) : Mt G true l yX1_size (ws_ yX1_size cX1_size 1 (some .int)) d (rrV G pI) [aR 1 (some 8)] w (f_X1_size d w) := by
  refine Mt.of (own := "IntervalTree") hG hl (by decide +kernel) rfl rfl ?_
  intro M hM hr hnm hxt hnd K
  subst hM
  cases d with
  | zero => exact j_none
  | succ d =>
    refine j_aload_n K dX1_size_0 rfl ?_
    refine j_getI (k := 6) K dX1_size_1 rfl rfl rfl q187 rfl rfl rfl ?_
    refine j_aload_n K dX1_size_4 rfl ?_
    refine j_getI (k := 7) K dX1_size_5 rfl rfl rfl q188 rfl rfl rfl ?_
    refine j_isub K dX1_size_8 ?_
    exact j_iret K hr dX1_size_9

theorem pm_X1_nodeCount : yX1_nodeCount.cls = RX1 ∧ yX1_nodeCount.cls ≠ "java/lang/invoke/MethodHandle" ∧ yX1_nodeCount.cls ≠ "java/lang/invoke/VarHandle" ∧ (parseMethodDescriptor yX1_nodeCount.desc).map (fun d => d.parameters.length) = some 0 := by decide +kernel
def f_X1_nodeCount (d : Nat) (w : Wd) : Option (Wd × Int32) :=
  match d with
  | 0 => none
  | d + 1 =>
    some (w, (gI w 8 6))
theorem sim_X1_nodeCount {G : Gx} (hG : GW G) {l : Launch} (hl : l.stackTraces = false) (d : Nat) (w : Wd) : Mt G true l yX1_nodeCount (ws_ yX1_nodeCount cX1_nodeCount 1 (some .int)) d (rrV G pI) [aR 1 (some 8)] w (f_X1_nodeCount d w) := by
  refine Mt.of (own := "IntervalTree") hG hl (by decide +kernel) rfl rfl ?_
  intro M hM hr hnm hxt hnd K
  subst hM
  cases d with
  | zero => exact j_none
  | succ d =>
    refine j_aload_n K dX1_nodeCount_0 rfl ?_
    refine j_getI (k := 6) K dX1_nodeCount_1 rfl rfl rfl q187 rfl rfl rfl ?_
    exact j_iret K hr dX1_nodeCount_4

theorem pm_X1_heightOf : yX1_heightOf.cls = RX1 ∧ yX1_heightOf.cls ≠ "java/lang/invoke/MethodHandle" ∧ yX1_heightOf.cls ≠ "java/lang/invoke/VarHandle" ∧ (parseMethodDescriptor yX1_heightOf.desc).map (fun d => d.parameters.length) = some 1 := by decide +kernel
def fB_X1_heightOf (d : Nat) (g_X1_heightOf : Option Nat → Wd → Option (Wd × Int32)) (p1 : Option Nat) (w : Wd) : Option (Wd × Int32) :=
  (p1).elim
    (some (w, 0))
    fun a1 =>
    (g_X1_heightOf (gR w a1 8) w).bind fun r2 =>
    (g_X1_heightOf (gR r2.1 a1 9) r2.1).bind fun r3 =>
    some (r3.1, (1 + (mmax r2.2 r3.2)))
theorem simB_X1_heightOf {G : Gx} (hG : GW G) {l : Launch} (hl : l.stackTraces = false) (d : Nat) {g_X1_heightOf : Option Nat → Wd → Option (Wd × Int32)} (hg_X1_heightOf : ∀ (p1 : Option Nat) (w : Wd), Mt G true l yX1_heightOf (ws_ yX1_heightOf cX1_heightOf 1 (some .int)) d (rrV G pI) [aR 4 p1] w (g_X1_heightOf p1 w)) (p1 : Option Nat) (w : Wd) : Mt G true l yX1_heightOf (ws_ yX1_heightOf cX1_heightOf 1 (some .int)) (d + 1) (rrV G pI) [aR 4 p1] w (fB_X1_heightOf d g_X1_heightOf p1 w) := by
  refine Mt.of (own := "IntervalTree") hG hl (by decide +kernel) rfl rfl ?_
  intro M hM hr hnm hxt hnd K
  subst hM
  refine j_aload_n K dX1_heightOf_0 rfl ?_
  refine j_ifnonnull 8 K dX1_heightOf_1 (by decide) (fun a1 ha1 => ?_) (fun _ => ?_)
  · refine j_iconstZ K dX1_heightOf_8 rfl (Or.inr rfl) ?_
    refine j_aload_n K dX1_heightOf_9 rfl ?_
    refine j_getR (k := 8) K dX1_heightOf_10 rfl rfl rfl q555 rfl rfl (by decide) ha1 ?_
    refine j_callS _ K (hg_X1_heightOf (gR w a1 8) w) dX1_heightOf_13 q355 q356 q93 q357 pm_X1_heightOf.2 rfl rfl rfl rfl (fun r2 _ => ?_)
    refine j_aload_n K dX1_heightOf_16 rfl ?_
    refine j_getR (k := 9) K dX1_heightOf_17 rfl rfl rfl q557 rfl rfl (by decide) ha1 ?_
    refine j_callS _ K (hg_X1_heightOf (gR r2.1 a1 9) r2.1) dX1_heightOf_20 q355 q356 q93 q357 pm_X1_heightOf.2 rfl rfl rfl rfl (fun r3 _ => ?_)
    refine j_mmax K dX1_heightOf_23 q358 rfl ?_
    refine j_iadd K dX1_heightOf_26 ?_
    exact j_iret K hr dX1_heightOf_27
  · refine j_iconstZ K dX1_heightOf_4 rfl (Or.inl rfl) ?_
    refine j_goto 27 K dX1_heightOf_5 (by decide) ?_
    exact j_iret K hr dX1_heightOf_27
def f_X1_heightOf : Nat → Option Nat → Wd → Option (Wd × Int32)
  | 0 => fun _ _ => none
  | d + 1 => fB_X1_heightOf d (f_X1_heightOf d)
theorem sim_X1_heightOf {G : Gx} (hG : GW G) {l : Launch} (hl : l.stackTraces = false) : ∀ (d : Nat) (p1 : Option Nat) (w : Wd), Mt G true l yX1_heightOf (ws_ yX1_heightOf cX1_heightOf 1 (some .int)) d (rrV G pI) [aR 4 p1] w (f_X1_heightOf d p1 w) := by
  intro d
  induction d with
  | zero => intros; exact fun _ h => by cases h
  | succ d ih => exact simB_X1_heightOf hG hl d ih

theorem pm_X1_height : yX1_height.cls = RX1 ∧ yX1_height.cls ≠ "java/lang/invoke/MethodHandle" ∧ yX1_height.cls ≠ "java/lang/invoke/VarHandle" ∧ (parseMethodDescriptor yX1_height.desc).map (fun d => d.parameters.length) = some 0 := by decide +kernel
def f_X1_height (d : Nat) (w : Wd) : Option (Wd × Int32) :=
  match d with
  | 0 => none
  | d + 1 =>
    (f_X1_heightOf d (gR w 8 4) w).bind fun r1 =>
    some (r1.1, r1.2)
theorem sim_X1_height {G : Gx} (hG : GW G) {l : Launch} (hl : l.stackTraces = false) (d : Nat) (w : Wd) : Mt G true l yX1_height (ws_ yX1_height cX1_height 1 (some .int)) d (rrV G pI) [aR 1 (some 8)] w (f_X1_height d w) := by
  refine Mt.of (own := "IntervalTree") hG hl (by decide +kernel) rfl rfl ?_
  intro M hM hr hnm hxt hnd K
  subst hM
  cases d with
  | zero => exact j_none
  | succ d =>
    refine j_aload_n K dX1_height_0 rfl ?_
    refine j_getR (k := 4) K dX1_height_1 rfl rfl rfl q185 rfl rfl (by decide) rfl ?_
    refine j_callS _ K (sim_X1_heightOf hG hl d (gR w 8 4) w) dX1_height_4 q355 q356 q93 q357 pm_X1_heightOf.2 rfl rfl rfl rfl (fun r1 _ => ?_)
    exact j_iret K hr dX1_height_7

theorem pm_X1_rebuildCount : yX1_rebuildCount.cls = RX1 ∧ yX1_rebuildCount.cls ≠ "java/lang/invoke/MethodHandle" ∧ yX1_rebuildCount.cls ≠ "java/lang/invoke/VarHandle" ∧ (parseMethodDescriptor yX1_rebuildCount.desc).map (fun d => d.parameters.length) = some 0 := by decide +kernel
def f_X1_rebuildCount (d : Nat) (w : Wd) : Option (Wd × Int32) :=
  match d with
  | 0 => none
  | d + 1 =>
    some (w, (gI w 8 9))
theorem sim_X1_rebuildCount {G : Gx} (hG : GW G) {l : Launch} (hl : l.stackTraces = false) (d : Nat) (w : Wd) : Mt G true l yX1_rebuildCount (ws_ yX1_rebuildCount cX1_rebuildCount 1 (some .int)) d (rrV G pI) [aR 1 (some 8)] w (f_X1_rebuildCount d w) := by
  refine Mt.of (own := "IntervalTree") hG hl (by decide +kernel) rfl rfl ?_
  intro M hM hr hnm hxt hnd K
  subst hM
  cases d with
  | zero => exact j_none
  | succ d =>
    refine j_aload_n K dX1_rebuildCount_0 rfl ?_
    refine j_getI (k := 9) K dX1_rebuildCount_1 rfl rfl rfl q190 rfl rfl rfl ?_
    exact j_iret K hr dX1_rebuildCount_4

theorem pm_X1_rebuiltNodes : yX1_rebuiltNodes.cls = RX1 ∧ yX1_rebuiltNodes.cls ≠ "java/lang/invoke/MethodHandle" ∧ yX1_rebuiltNodes.cls ≠ "java/lang/invoke/VarHandle" ∧ (parseMethodDescriptor yX1_rebuiltNodes.desc).map (fun d => d.parameters.length) = some 0 := by decide +kernel
def f_X1_rebuiltNodes (d : Nat) (w : Wd) : Option (Wd × Int32) :=
  match d with
  | 0 => none
  | d + 1 =>
    some (w, (gI w 8 10))
theorem sim_X1_rebuiltNodes {G : Gx} (hG : GW G) {l : Launch} (hl : l.stackTraces = false) (d : Nat) (w : Wd) : Mt G true l yX1_rebuiltNodes (ws_ yX1_rebuiltNodes cX1_rebuiltNodes 1 (some .int)) d (rrV G pI) [aR 1 (some 8)] w (f_X1_rebuiltNodes d w) := by
  refine Mt.of (own := "IntervalTree") hG hl (by decide +kernel) rfl rfl ?_
  intro M hM hr hnm hxt hnd K
  subst hM
  cases d with
  | zero => exact j_none
  | succ d =>
    refine j_aload_n K dX1_rebuiltNodes_0 rfl ?_
    refine j_getI (k := 10) K dX1_rebuiltNodes_1 rfl rfl rfl q191 rfl rfl rfl ?_
    exact j_iret K hr dX1_rebuiltNodes_4

theorem pm_X1_absorb : yX1_absorb.cls = RX1 ∧ yX1_absorb.cls ≠ "java/lang/invoke/MethodHandle" ∧ yX1_absorb.cls ≠ "java/lang/invoke/VarHandle" ∧ (parseMethodDescriptor yX1_absorb.desc).map (fun d => d.parameters.length) = some 2 := by decide +kernel
def b_X1_absorb_11 (d : Nat) : Nat → Int32 → Option Nat → Int32 → Int32 → Wd → Option (Wd × Int32)
  | 0, _, _, _, _, _ => none
  | n + 1, x2, x3, x4, x5, w =>
    if x4 ≤ x5 then
      some (w, x2)
    else
      (x3).bind fun a2 =>
      if ib x5 (gL w a2) = true then
        if ib ((x2 ^^^ (gI w a2 x5.toNatClampNeg)) &&& 255) 256 = true then
          b_X1_absorb_11 d n ((ush x2 8) ^^^ (gI w 0 ((x2 ^^^ (gI w a2 x5.toNatClampNeg)) &&& 255).toNatClampNeg)) x3 x4 (x5 + 1) w
        else none
      else none
def f_X1_absorb (d : Nat) (p1 : Int32) (p2 : Option Nat) (w : Wd) : Option (Wd × Int32) :=
  match d with
  | 0 => none
  | d + 1 =>
    (p2).bind fun a1 =>
    b_X1_absorb_11 d FU p1 p2 (Int32.ofNat (gL w a1)) 0 w
theorem sb_X1_absorb_11 {G : Gx} (hG : GW G) {M : Mx} (hl : (mL M).stackTraces = false) {w0 : Wd} {d : Nat} (K : Cx (G, true, M, 7, w0) cX1_absorb "IntervalTree" (d + 1)) (hr : (mH M).sig.returnType = some .int) (hnm : (mH M).name = yX1_absorb.name) (hxt : ∀ x ∈ (mC M).exceptionTable.toList, False) (hnd : (mS M).methodNamed? yX1_absorb = some (mM M)) : ∀ (n : Nat), ∀ (x2 : Int32) (x3 : Option Nat) (x4 : Int32) (x5 : Int32) (w : Wd) (fx2 : Bool) (fx4 : Bool) (fx5 : Bool), Jf (G, true, M, 7, w0) (rrV G pI) (b_X1_absorb_11 d n x2 x3 x4 x5 w) w 11 [none, none, some (aB fx2 x2), some (aR 10 x3), some (aB fx4 x4), some (aB fx5 x5), none] [] := by
  intro n
  induction n with
  | zero => intros; exact j_none
  | succ n ih =>
    intro x2 x3 x4 x5 w fx2 fx4 fx5
    refine j_iload K dX1_absorb_11 rfl ?_
    refine j_iload K dX1_absorb_13 rfl ?_
    refine j_icmp_ge 48 K dX1_absorb_15 (by decide) ?_ ?_
    · refine j_iload_n K dX1_absorb_48 rfl ?_
      exact j_iret K hr dX1_absorb_49
    · refine j_aload_n K dX1_absorb_18 rfl ?_
      refine j_iload K dX1_absorb_19 rfl ?_
      refine j_nn (fun a2 ha2 => ?_)
      refine j_ib (fun hi3 => ?_)
      refine j_ial K dX1_absorb_21 ha2 gLen hi3 ?_
      refine j_istore K dX1_absorb_22 rfl rfl ?_
      refine j_iload_n K dX1_absorb_24 rfl ?_
      refine j_bipush (x := 8) K dX1_absorb_25 (by decide +kernel) ?_
      refine j_iushr K dX1_absorb_27 ?_
      refine j_gets K dX1_absorb_28 q377 rfl ?_
      refine j_iload_n K dX1_absorb_31 rfl ?_
      refine j_iload K dX1_absorb_32 rfl ?_
      refine j_ixor K dX1_absorb_34 ?_
      refine j_sipush (x := 255) K dX1_absorb_35 (by decide +kernel) ?_
      refine j_iand K dX1_absorb_38 ?_
      refine j_ib (fun hi4 => ?_)
      refine j_tal K dX1_absorb_39 rfl (tabLen rfl) hi4 ?_
      refine j_ixor K dX1_absorb_40 ?_
      refine j_istore_n K dX1_absorb_41 rfl rfl ?_
      refine j_iinc (y := 1) K dX1_absorb_42 rfl rfl rfl rfl ?_
      refine j_goto 11 K dX1_absorb_45 (by decide) ?_
      exact j_wk (ih _ _ _ _ _ _ _ _) ⟨rfl, rfl, rfl, rfl, trivial⟩
theorem sim_X1_absorb {G : Gx} (hG : GW G) {l : Launch} (hl : l.stackTraces = false) (d : Nat) (p1 : Int32) (p2 : Option Nat) (w : Wd) (fp1 : Bool) : Mt G true l yX1_absorb (ws_ yX1_absorb cX1_absorb 7 (some .int)) d (rrV G pI) [aB fp1 p1, aR 10 p2] w (f_X1_absorb d p1 p2 w) := by
  refine Mt.of (own := "IntervalTree") hG hl (by decide +kernel) rfl rfl ?_
  intro M hM hr hnm hxt hnd K
  subst hM
  cases d with
  | zero => exact j_none
  | succ d =>
    refine j_iload_n K dX1_absorb_0 rfl ?_
    refine j_istore_n K dX1_absorb_1 rfl rfl ?_
    refine j_aload_n K dX1_absorb_2 rfl ?_
    refine j_astore_n K dX1_absorb_3 rfl rfl ?_
    refine j_aload_n K dX1_absorb_4 rfl ?_
    refine j_nn (fun a1 ha1 => ?_)
    refine j_alen K dX1_absorb_5 rfl rfl ha1 ?_
    refine j_istore K dX1_absorb_6 rfl rfl ?_
    refine j_iconstZ K dX1_absorb_8 rfl (Or.inl rfl) ?_
    refine j_istore K dX1_absorb_9 rfl rfl ?_
    exact j_wk (sb_X1_absorb_11 hG hl K hr hnm hxt hnd FU _ _ _ _ _ _ _ _) ⟨rfl, rfl, rfl, rfl, trivial⟩

theorem pm_X1_digestOf : yX1_digestOf.cls = RX1 ∧ yX1_digestOf.cls ≠ "java/lang/invoke/MethodHandle" ∧ yX1_digestOf.cls ≠ "java/lang/invoke/VarHandle" ∧ (parseMethodDescriptor yX1_digestOf.desc).map (fun d => d.parameters.length) = some 2 := by decide +kernel
def b_X1_digestOf_60 (d : Nat) (g_X1_digestOf : Option Nat → Int32 → Wd → Option (Wd × Int32)) (x0 : Option Nat) (s0 : Int32) (s1 : Option Nat) (s2 : Option Nat) (s3 : Int32) (s4 : Int32) (w : Wd) : Option (Wd × Int32) :=
  (s2).bind fun a8 =>
  if ib s3 (gL w a8) = true then
    (f_X1_absorb d s0 s1 (sI w a8 s3.toNatClampNeg s4)).bind fun r10 =>
    (x0).bind fun a11 =>
    (g_X1_digestOf (gR r10.1 a11 8) r10.2 r10.1).bind fun r12 =>
    (g_X1_digestOf (gR r10.1 a11 9) r12.2 r12.1).bind fun r13 =>
    some (r13.1, r13.2)
  else none
def b_X1_digestOf_45 (d : Nat) (g_X1_digestOf : Option Nat → Int32 → Wd → Option (Wd × Int32)) (x0 : Option Nat) (s0 : Int32) (s1 : Option Nat) (s2 : Option Nat) (s3 : Int32) (s4 : Int32) (w : Wd) : Option (Wd × Int32) :=
  (s2).bind fun a5 =>
  if ib s3 (gL w a5) = true then
    (x0).bind fun a7 =>
    if (gI (sI w a5 s3.toNatClampNeg s4) a7 6) = 0 then
      b_X1_digestOf_60 d g_X1_digestOf x0 s0 s1 s1 3 0 (sI w a5 s3.toNatClampNeg s4)
    else
      b_X1_digestOf_60 d g_X1_digestOf x0 s0 s1 s1 3 1 (sI w a5 s3.toNatClampNeg s4)
  else none
def fB_X1_digestOf (d : Nat) (g_X1_digestOf : Option Nat → Int32 → Wd → Option (Wd × Int32)) (p1 : Option Nat) (p2 : Int32) (w : Wd) : Option (Wd × Int32) :=
  (p1).elim
    (some (w, p2))
    fun a1 =>
    (nwB w 10 4 4).bind fun w2 =>
    if ib 0 (gL w2 (gN w)) = true then
      if ib 1 (gL (sI w2 (gN w) (Int32.toNatClampNeg 0) ((gI w2 a1 0) &&& 255)) (gN w)) = true then
        if (gI (sI (sI w2 (gN w) (Int32.toNatClampNeg 0) ((gI w2 a1 0) &&& 255)) (gN w) (Int32.toNatClampNeg 1) ((gI (sI w2 (gN w) (Int32.toNatClampNeg 0) ((gI w2 a1 0) &&& 255)) a1 0) >>> (8 &&& 31))) a1 5) = 0 then
          b_X1_digestOf_45 d g_X1_digestOf p1 p2 (some (gN w)) (some (gN w)) 2 0 (sI (sI w2 (gN w) (Int32.toNatClampNeg 0) ((gI w2 a1 0) &&& 255)) (gN w) (Int32.toNatClampNeg 1) ((gI (sI w2 (gN w) (Int32.toNatClampNeg 0) ((gI w2 a1 0) &&& 255)) a1 0) >>> (8 &&& 31)))
        else
          b_X1_digestOf_45 d g_X1_digestOf p1 p2 (some (gN w)) (some (gN w)) 2 1 (sI (sI w2 (gN w) (Int32.toNatClampNeg 0) ((gI w2 a1 0) &&& 255)) (gN w) (Int32.toNatClampNeg 1) ((gI (sI w2 (gN w) (Int32.toNatClampNeg 0) ((gI w2 a1 0) &&& 255)) a1 0) >>> (8 &&& 31)))
      else none
    else none
theorem sb_X1_digestOf_60 {G : Gx} (hG : GW G) {M : Mx} (hl : (mL M).stackTraces = false) {w0 : Wd} {d : Nat} (K : Cx (G, true, M, 3, w0) cX1_digestOf "IntervalTree" (d + 1)) (hr : (mH M).sig.returnType = some .int) (hnm : (mH M).name = yX1_digestOf.name) (hxt : ∀ x ∈ (mC M).exceptionTable.toList, False) (hnd : (mS M).methodNamed? yX1_digestOf = some (mM M)) {g_X1_digestOf : Option Nat → Int32 → Wd → Option (Wd × Int32)} (hg_X1_digestOf : ∀ (p1 : Option Nat) (p2 : Int32) (w : Wd) (fp2 : Bool), Mt G true (mL M) yX1_digestOf (ws_ yX1_digestOf cX1_digestOf 3 (some .int)) d (rrV G pI) [aR 4 p1, aB fp2 p2] w (g_X1_digestOf p1 p2 w)) : ∀ (x0 : Option Nat) (s0 : Int32) (s1 : Option Nat) (s2 : Option Nat) (s3 : Int32) (s4 : Int32) (w : Wd) (fs0 : Bool) (fs3 : Bool), Jf (G, true, M, 3, w0) (rrV G pI) (b_X1_digestOf_60 d g_X1_digestOf x0 s0 s1 s2 s3 s4 w) w 60 [some (aR 4 x0), none, none] [aB true s4, aB fs3 s3, aR 10 s2, aR 10 s1, aB fs0 s0] := by
  intro x0 s0 s1 s2 s3 s4 w fs0 fs3
  refine j_nn (fun a8 ha8 => ?_)
  refine j_ib (fun hi9 => ?_)
  refine j_ias K dX1_digestOf_60 ha8 gLen hi9 ?_
  refine j_callS _ K (sim_X1_absorb hG hl d s0 s1 (sI w a8 s3.toNatClampNeg s4) fs0) dX1_digestOf_61 q374 q375 q93 q376 pm_X1_absorb.2 rfl rfl rfl rfl (fun r10 _ => ?_)
  refine j_istore_n K dX1_digestOf_64 rfl rfl ?_
  refine j_aload_n K dX1_digestOf_65 rfl ?_
  refine j_nn (fun a11 ha11 => ?_)
  refine j_getR (k := 9) K dX1_digestOf_66 rfl rfl rfl q557 rfl rfl (by decide) ha11 ?_
  refine j_aload_n K dX1_digestOf_69 rfl ?_
  refine j_getR (k := 8) K dX1_digestOf_70 rfl rfl rfl q555 rfl rfl (by decide) ha11 ?_
  refine j_iload_n K dX1_digestOf_73 rfl ?_
  refine j_callS _ K (hg_X1_digestOf (gR r10.1 a11 8) r10.2 r10.1 false) dX1_digestOf_74 q371 q372 q93 q373 pm_X1_digestOf.2 rfl rfl rfl rfl (fun r12 _ => ?_)
  refine j_callS _ K (hg_X1_digestOf (gR r10.1 a11 9) r12.2 r12.1 false) dX1_digestOf_77 q371 q372 q93 q373 pm_X1_digestOf.2 rfl rfl rfl rfl (fun r13 _ => ?_)
  exact j_iret K hr dX1_digestOf_80
theorem sb_X1_digestOf_45 {G : Gx} (hG : GW G) {M : Mx} (hl : (mL M).stackTraces = false) {w0 : Wd} {d : Nat} (K : Cx (G, true, M, 3, w0) cX1_digestOf "IntervalTree" (d + 1)) (hr : (mH M).sig.returnType = some .int) (hnm : (mH M).name = yX1_digestOf.name) (hxt : ∀ x ∈ (mC M).exceptionTable.toList, False) (hnd : (mS M).methodNamed? yX1_digestOf = some (mM M)) {g_X1_digestOf : Option Nat → Int32 → Wd → Option (Wd × Int32)} (hg_X1_digestOf : ∀ (p1 : Option Nat) (p2 : Int32) (w : Wd) (fp2 : Bool), Mt G true (mL M) yX1_digestOf (ws_ yX1_digestOf cX1_digestOf 3 (some .int)) d (rrV G pI) [aR 4 p1, aB fp2 p2] w (g_X1_digestOf p1 p2 w)) : ∀ (x0 : Option Nat) (s0 : Int32) (s1 : Option Nat) (s2 : Option Nat) (s3 : Int32) (s4 : Int32) (w : Wd) (fs0 : Bool) (fs3 : Bool), Jf (G, true, M, 3, w0) (rrV G pI) (b_X1_digestOf_45 d g_X1_digestOf x0 s0 s1 s2 s3 s4 w) w 45 [some (aR 4 x0), none, none] [aB true s4, aB fs3 s3, aR 10 s2, aR 10 s1, aB fs0 s0] := by
  intro x0 s0 s1 s2 s3 s4 w fs0 fs3
  refine j_nn (fun a5 ha5 => ?_)
  refine j_ib (fun hi6 => ?_)
  refine j_ias K dX1_digestOf_45 ha5 gLen hi6 ?_
  refine j_dup K dX1_digestOf_46 rfl ?_
  refine j_iconst (x := 3) K dX1_digestOf_47 rfl ?_
  refine j_aload_n K dX1_digestOf_48 rfl ?_
  refine j_nn (fun a7 ha7 => ?_)
  refine j_getZ (k := 6) K dX1_digestOf_49 rfl rfl rfl q552 rfl rfl rfl ha7 ?_
  refine j_if_eq 59 K dX1_digestOf_52 (by decide) ?_ ?_
  · refine j_iconstZ K dX1_digestOf_59 rfl (Or.inl rfl) ?_
    exact j_wk (sb_X1_digestOf_60 hG hl K hr hnm hxt hnd hg_X1_digestOf _ _ _ _ _ _ _ _ _) ⟨rfl, trivial⟩
  · refine j_iconstZ K dX1_digestOf_55 rfl (Or.inr rfl) ?_
    refine j_goto 60 K dX1_digestOf_56 (by decide) ?_
    exact j_wk (sb_X1_digestOf_60 hG hl K hr hnm hxt hnd hg_X1_digestOf _ _ _ _ _ _ _ _ _) ⟨rfl, trivial⟩
theorem simB_X1_digestOf {G : Gx} (hG : GW G) {l : Launch} (hl : l.stackTraces = false) (d : Nat) {g_X1_digestOf : Option Nat → Int32 → Wd → Option (Wd × Int32)} (hg_X1_digestOf : ∀ (p1 : Option Nat) (p2 : Int32) (w : Wd) (fp2 : Bool), Mt G true l yX1_digestOf (ws_ yX1_digestOf cX1_digestOf 3 (some .int)) d (rrV G pI) [aR 4 p1, aB fp2 p2] w (g_X1_digestOf p1 p2 w)) (p1 : Option Nat) (p2 : Int32) (w : Wd) (fp2 : Bool) : Mt G true l yX1_digestOf (ws_ yX1_digestOf cX1_digestOf 3 (some .int)) (d + 1) (rrV G pI) [aR 4 p1, aB fp2 p2] w (fB_X1_digestOf d g_X1_digestOf p1 p2 w) := by
  refine Mt.of (own := "IntervalTree") hG hl (by decide +kernel) rfl rfl ?_
  intro M hM hr hnm hxt hnd K
  subst hM
  refine j_aload_n K dX1_digestOf_0 rfl ?_
  refine j_ifnonnull 6 K dX1_digestOf_1 (by decide) (fun a1 ha1 => ?_) (fun _ => ?_)
  · refine j_iload_n K dX1_digestOf_6 rfl ?_
    refine j_iconst (x := 4) K dX1_digestOf_7 rfl ?_
    refine j_newaB (kd := 10) (N := 4) (ty := .int) K dX1_digestOf_8 rfl rfl (fun _ _ h => h) rfl q286 (by decide +kernel) (by decide +kernel) rfl (fun _ => rfl) (fun w2 => ?_)
    refine j_dup K dX1_digestOf_10 rfl ?_
    refine j_iconstZ K dX1_digestOf_11 rfl (Or.inl rfl) ?_
    refine j_aload_n K dX1_digestOf_12 rfl ?_
    refine j_getI (k := 0) K dX1_digestOf_13 rfl rfl rfl q541 rfl rfl ha1 ?_
    refine j_sipush (x := 255) K dX1_digestOf_16 (by decide +kernel) ?_
    refine j_iand K dX1_digestOf_19 ?_
    refine j_ib (fun hi3 => ?_)
    refine j_ias K dX1_digestOf_20 rfl gLen hi3 ?_
    refine j_dup K dX1_digestOf_21 rfl ?_
    refine j_iconstZ K dX1_digestOf_22 rfl (Or.inr rfl) ?_
    refine j_aload_n K dX1_digestOf_23 rfl ?_
    refine j_getI (k := 0) K dX1_digestOf_24 rfl rfl rfl q541 rfl rfl ha1 ?_
    refine j_bipush (x := 8) K dX1_digestOf_27 (by decide +kernel) ?_
    refine j_ishr K dX1_digestOf_29 ?_
    refine j_ib (fun hi4 => ?_)
    refine j_ias K dX1_digestOf_30 rfl gLen hi4 ?_
    refine j_dup K dX1_digestOf_31 rfl ?_
    refine j_iconst (x := 2) K dX1_digestOf_32 rfl ?_
    refine j_aload_n K dX1_digestOf_33 rfl ?_
    refine j_getZ (k := 5) K dX1_digestOf_34 rfl rfl rfl q550 rfl rfl rfl ha1 ?_
    refine j_if_eq 44 K dX1_digestOf_37 (by decide) ?_ ?_
    · refine j_iconstZ K dX1_digestOf_44 rfl (Or.inl rfl) ?_
      exact j_wk (sb_X1_digestOf_45 hG hl K hr hnm hxt hnd hg_X1_digestOf _ _ _ _ _ _ _ _ _) ⟨rfl, trivial⟩
    · refine j_iconstZ K dX1_digestOf_40 rfl (Or.inr rfl) ?_
      refine j_goto 45 K dX1_digestOf_41 (by decide) ?_
      exact j_wk (sb_X1_digestOf_45 hG hl K hr hnm hxt hnd hg_X1_digestOf _ _ _ _ _ _ _ _ _) ⟨rfl, trivial⟩
  · refine j_iload_n K dX1_digestOf_4 rfl ?_
    exact j_iret K hr dX1_digestOf_5
def f_X1_digestOf : Nat → Option Nat → Int32 → Wd → Option (Wd × Int32)
  | 0 => fun _ _ _ => none
  | d + 1 => fB_X1_digestOf d (f_X1_digestOf d)
theorem sim_X1_digestOf {G : Gx} (hG : GW G) {l : Launch} (hl : l.stackTraces = false) : ∀ (d : Nat) (p1 : Option Nat) (p2 : Int32) (w : Wd) (fp2 : Bool), Mt G true l yX1_digestOf (ws_ yX1_digestOf cX1_digestOf 3 (some .int)) d (rrV G pI) [aR 4 p1, aB fp2 p2] w (f_X1_digestOf d p1 p2 w) := by
  intro d
  induction d with
  | zero => intros; exact fun _ h => by cases h
  | succ d ih => exact simB_X1_digestOf hG hl d ih

theorem pm_X1_digest : yX1_digest.cls = RX1 ∧ yX1_digest.cls ≠ "java/lang/invoke/MethodHandle" ∧ yX1_digest.cls ≠ "java/lang/invoke/VarHandle" ∧ (parseMethodDescriptor yX1_digest.desc).map (fun d => d.parameters.length) = some 0 := by decide +kernel
def f_X1_digest (d : Nat) (w : Wd) : Option (Wd × Int32) :=
  match d with
  | 0 => none
  | d + 1 =>
    (f_X1_digestOf d (gR w 8 4) (-1) w).bind fun r1 =>
    some (r1.1, r1.2)
theorem sim_X1_digest {G : Gx} (hG : GW G) {l : Launch} (hl : l.stackTraces = false) (d : Nat) (w : Wd) : Mt G true l yX1_digest (ws_ yX1_digest cX1_digest 1 (some .int)) d (rrV G pI) [aR 1 (some 8)] w (f_X1_digest d w) := by
  refine Mt.of (own := "IntervalTree") hG hl (by decide +kernel) rfl rfl ?_
  intro M hM hr hnm hxt hnd K
  subst hM
  cases d with
  | zero => exact j_none
  | succ d =>
    refine j_aload_n K dX1_digest_0 rfl ?_
    refine j_getR (k := 4) K dX1_digest_1 rfl rfl rfl q185 rfl rfl (by decide) rfl ?_
    refine j_iconst (x := (-1)) K dX1_digest_4 rfl ?_
    refine j_callS _ K (sim_X1_digestOf hG hl d (gR w 8 4) (-1) w false) dX1_digest_5 q371 q372 q93 q373 pm_X1_digestOf.2 rfl rfl rfl rfl (fun r1 _ => ?_)
    exact j_iret K hr dX1_digest_8

theorem pm_X1_stab : yX1_stab.cls = RX1 ∧ yX1_stab.cls ≠ "java/lang/invoke/MethodHandle" ∧ yX1_stab.cls ≠ "java/lang/invoke/VarHandle" ∧ (parseMethodDescriptor yX1_stab.desc).map (fun d => d.parameters.length) = some 2 := by decide +kernel
def b_X1_stab_80 (d : Nat) (g_X1_stab : Option Nat → Int32 → Wd → Option (Wd × Unit)) (x1 : Option Nat) (x2 : Int32) (w : Wd) : Option (Wd × Unit) :=
  (x1).bind fun a4 =>
  (g_X1_stab (gR w a4 9) x2 w).bind fun r5 =>
  some (r5.1, ())
def fB_X1_stab (d : Nat) (g_X1_stab : Option Nat → Int32 → Wd → Option (Wd × Unit)) (p1 : Option Nat) (p2 : Int32) (w : Wd) : Option (Wd × Unit) :=
  (p1).elim
    (some (w, ()))
    fun a1 =>
    if (gI w a1 10) = 0 then
      some (w, ())
    else
      if p2 ≤ (gI w a1 11) then
        (f_X4_push d a1 w).bind fun r2 =>
        (g_X1_stab (gR r2.1 a1 8) p2 r2.1).bind fun r3 =>
        if (gI r3.1 a1 1) ≤ p2 then
          if (gI r3.1 a1 6) = 0 then
            if (gI r3.1 a1 2) < p2 then
              b_X1_stab_80 d g_X1_stab p1 p2 r3.1
            else
              b_X1_stab_80 d g_X1_stab p1 p2 (sI (sI r3.1 8 14 ((gI r3.1 8 14) + 1)) 8 15 ((gI (sI r3.1 8 14 ((gI r3.1 8 14) + 1)) 8 15) + (gI (sI r3.1 8 14 ((gI r3.1 8 14) + 1)) a1 3)))
          else
            b_X1_stab_80 d g_X1_stab p1 p2 r3.1
        else
          some (r3.1, ())
      else
        some (w, ())
theorem sb_X1_stab_80 {G : Gx} (hG : GW G) {M : Mx} (hl : (mL M).stackTraces = false) {w0 : Wd} {d : Nat} (K : Cx (G, true, M, 3, w0) cX1_stab "IntervalTree" (d + 1)) (hr : (mH M).sig.returnType = none) (hnm : (mH M).name = yX1_stab.name) (hxt : ∀ x ∈ (mC M).exceptionTable.toList, False) (hnd : (mS M).methodNamed? yX1_stab = some (mM M)) {g_X1_stab : Option Nat → Int32 → Wd → Option (Wd × Unit)} (hg_X1_stab : ∀ (p1 : Option Nat) (p2 : Int32) (w : Wd) (fp2 : Bool), Mt G true (mL M) yX1_stab (ws_ yX1_stab cX1_stab 3 (none)) d (rrV G pU) [aR 1 (some 8), aR 4 p1, aB fp2 p2] w (g_X1_stab p1 p2 w)) : ∀ (x1 : Option Nat) (x2 : Int32) (w : Wd) (fx2 : Bool), Jf (G, true, M, 3, w0) (rrV G pU) (b_X1_stab_80 d g_X1_stab x1 x2 w) w 80 [some (aR 1 (some 8)), some (aR 4 x1), some (aB fx2 x2)] [] := by
  intro x1 x2 w fx2
  refine j_aload_n K dX1_stab_80 rfl ?_
  refine j_aload_n K dX1_stab_81 rfl ?_
  refine j_nn (fun a4 ha4 => ?_)
  refine j_getR (k := 9) K dX1_stab_82 rfl rfl rfl q557 rfl rfl (by decide) ha4 ?_
  refine j_iload_n K dX1_stab_85 rfl ?_
  refine j_callV _ K (hg_X1_stab (gR w a4 9) x2 w fx2) dX1_stab_86 rfl rfl q383 q385 qs10 q93 q386 pm_X1_stab rfl rfl rfl rfl rfl (fun r5 _ => ?_)
  exact j_vret K hr dX1_stab_89
theorem simB_X1_stab {G : Gx} (hG : GW G) {l : Launch} (hl : l.stackTraces = false) (d : Nat) {g_X1_stab : Option Nat → Int32 → Wd → Option (Wd × Unit)} (hg_X1_stab : ∀ (p1 : Option Nat) (p2 : Int32) (w : Wd) (fp2 : Bool), Mt G true l yX1_stab (ws_ yX1_stab cX1_stab 3 (none)) d (rrV G pU) [aR 1 (some 8), aR 4 p1, aB fp2 p2] w (g_X1_stab p1 p2 w)) (p1 : Option Nat) (p2 : Int32) (w : Wd) (fp2 : Bool) : Mt G true l yX1_stab (ws_ yX1_stab cX1_stab 3 (none)) (d + 1) (rrV G pU) [aR 1 (some 8), aR 4 p1, aB fp2 p2] w (fB_X1_stab d g_X1_stab p1 p2 w) := by
  refine Mt.of (own := "IntervalTree") hG hl (by decide +kernel) rfl rfl ?_
  intro M hM hr hnm hxt hnd K
  subst hM
  refine j_aload_n K dX1_stab_0 rfl ?_
  refine j_ifnull 19 K dX1_stab_1 (by decide) (fun _ => ?_) (fun a1 ha1 => ?_)
  · exact j_vret K hr dX1_stab_19
  · refine j_aload_n K dX1_stab_4 rfl ?_
    refine j_getI (k := 10) K dX1_stab_5 rfl rfl rfl q559 rfl rfl ha1 ?_
    refine j_if_eq 19 K dX1_stab_8 (by decide) ?_ ?_
    · exact j_vret K hr dX1_stab_19
    · refine j_aload_n K dX1_stab_11 rfl ?_
      refine j_getI (k := 11) K dX1_stab_12 rfl rfl rfl q561 rfl rfl ha1 ?_
      refine j_iload_n K dX1_stab_15 rfl ?_
      refine j_icmp_ge 20 K dX1_stab_16 (by decide) ?_ ?_
      · refine j_aload_n K dX1_stab_20 rfl ?_
        refine j_callV _ K (sim_X4_push hG hl d a1 w) dX1_stab_21 rfl rfl q312 q313 q314 q102 q315 pm_X4_push rfl rfl rfl ha1 rfl (fun r2 _ => ?_)
        refine j_aload_n K dX1_stab_24 rfl ?_
        refine j_aload_n K dX1_stab_25 rfl ?_
        refine j_getR (k := 8) K dX1_stab_26 rfl rfl rfl q555 rfl rfl (by decide) ha1 ?_
        refine j_iload_n K dX1_stab_29 rfl ?_
        refine j_callV _ K (hg_X1_stab (gR r2.1 a1 8) p2 r2.1 fp2) dX1_stab_30 rfl rfl q383 q385 qs10 q93 q386 pm_X1_stab rfl rfl rfl rfl rfl (fun r3 _ => ?_)
        refine j_aload_n K dX1_stab_33 rfl ?_
        refine j_getI (k := 1) K dX1_stab_34 rfl rfl rfl q543 rfl rfl ha1 ?_
        refine j_iload_n K dX1_stab_37 rfl ?_
        refine j_icmp_le 42 K dX1_stab_38 (by decide) ?_ ?_
        · refine j_aload_n K dX1_stab_42 rfl ?_
          refine j_getZ (k := 6) K dX1_stab_43 rfl rfl rfl q552 rfl rfl rfl ha1 ?_
          refine j_if_ne 80 K dX1_stab_46 (by decide) ?_ ?_
          · exact sb_X1_stab_80 hG hl K hr hnm hxt hnd hg_X1_stab _ _ _ _
          · refine j_aload_n K dX1_stab_49 rfl ?_
            refine j_getI (k := 2) K dX1_stab_50 rfl rfl rfl q545 rfl rfl ha1 ?_
            refine j_iload_n K dX1_stab_53 rfl ?_
            refine j_icmp_lt 80 K dX1_stab_54 (by decide) ?_ ?_
            · exact sb_X1_stab_80 hG hl K hr hnm hxt hnd hg_X1_stab _ _ _ _
            · refine j_aload_n K dX1_stab_57 rfl ?_
              refine j_dup K dX1_stab_58 rfl ?_
              refine j_getI (k := 14) K dX1_stab_59 rfl rfl rfl q195 rfl rfl rfl ?_
              refine j_iconstZ K dX1_stab_62 rfl (Or.inr rfl) ?_
              refine j_iadd K dX1_stab_63 ?_
              refine j_putI (k := 14) K dX1_stab_64 rfl rfl q195 rfl (Or.inl rfl) rfl rfl rfl rfl ?_
              refine j_aload_n K dX1_stab_67 rfl ?_
              refine j_dup K dX1_stab_68 rfl ?_
              refine j_getI (k := 15) K dX1_stab_69 rfl rfl rfl q196 rfl rfl rfl ?_
              refine j_aload_n K dX1_stab_72 rfl ?_
              refine j_getI (k := 3) K dX1_stab_73 rfl rfl rfl q547 rfl rfl ha1 ?_
              refine j_iadd K dX1_stab_76 ?_
              refine j_putI (k := 15) K dX1_stab_77 rfl rfl q196 rfl (Or.inl rfl) rfl rfl rfl rfl ?_
              exact sb_X1_stab_80 hG hl K hr hnm hxt hnd hg_X1_stab _ _ _ _
        · exact j_vret K hr dX1_stab_41
      · exact j_vret K hr dX1_stab_19
def f_X1_stab : Nat → Option Nat → Int32 → Wd → Option (Wd × Unit)
  | 0 => fun _ _ _ => none
  | d + 1 => fB_X1_stab d (f_X1_stab d)
theorem sim_X1_stab {G : Gx} (hG : GW G) {l : Launch} (hl : l.stackTraces = false) : ∀ (d : Nat) (p1 : Option Nat) (p2 : Int32) (w : Wd) (fp2 : Bool), Mt G true l yX1_stab (ws_ yX1_stab cX1_stab 3 (none)) d (rrV G pU) [aR 1 (some 8), aR 4 p1, aB fp2 p2] w (f_X1_stab d p1 p2 w) := by
  intro d
  induction d with
  | zero => intros; exact fun _ h => by cases h
  | succ d ih => exact simB_X1_stab hG hl d ih

theorem pm_X1_stabCount : yX1_stabCount.cls = RX1 ∧ yX1_stabCount.cls ≠ "java/lang/invoke/MethodHandle" ∧ yX1_stabCount.cls ≠ "java/lang/invoke/VarHandle" ∧ (parseMethodDescriptor yX1_stabCount.desc).map (fun d => d.parameters.length) = some 1 := by decide +kernel
def f_X1_stabCount (d : Nat) (p1 : Int32) (w : Wd) : Option (Wd × Int32) :=
  match d with
  | 0 => none
  | d + 1 =>
    (f_X1_stab d (gR (sI w 8 14 0) 8 4) p1 (sI w 8 14 0)).bind fun r1 =>
    some (r1.1, (gI r1.1 8 14))
theorem sim_X1_stabCount {G : Gx} (hG : GW G) {l : Launch} (hl : l.stackTraces = false) (d : Nat) (p1 : Int32) (w : Wd) (fp1 : Bool) : Mt G true l yX1_stabCount (ws_ yX1_stabCount cX1_stabCount 2 (some .int)) d (rrV G pI) [aR 1 (some 8), aB fp1 p1] w (f_X1_stabCount d p1 w) := by
  refine Mt.of (own := "IntervalTree") hG hl (by decide +kernel) rfl rfl ?_
  intro M hM hr hnm hxt hnd K
  subst hM
  cases d with
  | zero => exact j_none
  | succ d =>
    refine j_aload_n K dX1_stabCount_0 rfl ?_
    refine j_iconstZ K dX1_stabCount_1 rfl (Or.inl rfl) ?_
    refine j_putI (k := 14) K dX1_stabCount_2 rfl rfl q195 rfl (Or.inl rfl) rfl rfl rfl rfl ?_
    refine j_aload_n K dX1_stabCount_5 rfl ?_
    refine j_aload_n K dX1_stabCount_6 rfl ?_
    refine j_getR (k := 4) K dX1_stabCount_7 rfl rfl rfl q185 rfl rfl (by decide) rfl ?_
    refine j_iload_n K dX1_stabCount_10 rfl ?_
    refine j_callV _ K (sim_X1_stab hG hl d (gR (sI w 8 14 0) 8 4) p1 (sI w 8 14 0) fp1) dX1_stabCount_11 rfl rfl q383 q385 qs10 q93 q386 pm_X1_stab rfl rfl rfl rfl rfl (fun r1 _ => ?_)
    refine j_aload_n K dX1_stabCount_14 rfl ?_
    refine j_getI (k := 14) K dX1_stabCount_15 rfl rfl rfl q195 rfl rfl rfl ?_
    exact j_iret K hr dX1_stabCount_18

theorem pm_X1_stabWeight : yX1_stabWeight.cls = RX1 ∧ yX1_stabWeight.cls ≠ "java/lang/invoke/MethodHandle" ∧ yX1_stabWeight.cls ≠ "java/lang/invoke/VarHandle" ∧ (parseMethodDescriptor yX1_stabWeight.desc).map (fun d => d.parameters.length) = some 1 := by decide +kernel
def f_X1_stabWeight (d : Nat) (p1 : Int32) (w : Wd) : Option (Wd × Int32) :=
  match d with
  | 0 => none
  | d + 1 =>
    (f_X1_stab d (gR (sI w 8 15 0) 8 4) p1 (sI w 8 15 0)).bind fun r1 =>
    some (r1.1, (gI r1.1 8 15))
theorem sim_X1_stabWeight {G : Gx} (hG : GW G) {l : Launch} (hl : l.stackTraces = false) (d : Nat) (p1 : Int32) (w : Wd) (fp1 : Bool) : Mt G true l yX1_stabWeight (ws_ yX1_stabWeight cX1_stabWeight 2 (some .int)) d (rrV G pI) [aR 1 (some 8), aB fp1 p1] w (f_X1_stabWeight d p1 w) := by
  refine Mt.of (own := "IntervalTree") hG hl (by decide +kernel) rfl rfl ?_
  intro M hM hr hnm hxt hnd K
  subst hM
  cases d with
  | zero => exact j_none
  | succ d =>
    refine j_aload_n K dX1_stabWeight_0 rfl ?_
    refine j_iconstZ K dX1_stabWeight_1 rfl (Or.inl rfl) ?_
    refine j_putI (k := 15) K dX1_stabWeight_2 rfl rfl q196 rfl (Or.inl rfl) rfl rfl rfl rfl ?_
    refine j_aload_n K dX1_stabWeight_5 rfl ?_
    refine j_aload_n K dX1_stabWeight_6 rfl ?_
    refine j_getR (k := 4) K dX1_stabWeight_7 rfl rfl rfl q185 rfl rfl (by decide) rfl ?_
    refine j_iload_n K dX1_stabWeight_10 rfl ?_
    refine j_callV _ K (sim_X1_stab hG hl d (gR (sI w 8 15 0) 8 4) p1 (sI w 8 15 0) fp1) dX1_stabWeight_11 rfl rfl q383 q385 qs10 q93 q386 pm_X1_stab rfl rfl rfl rfl rfl (fun r1 _ => ?_)
    refine j_aload_n K dX1_stabWeight_14 rfl ?_
    refine j_getI (k := 15) K dX1_stabWeight_15 rfl rfl rfl q196 rfl rfl rfl ?_
    exact j_iret K hr dX1_stabWeight_18

theorem pm_X1_floorIn : yX1_floorIn.cls = RX1 ∧ yX1_floorIn.cls ≠ "java/lang/invoke/MethodHandle" ∧ yX1_floorIn.cls ≠ "java/lang/invoke/VarHandle" ∧ (parseMethodDescriptor yX1_floorIn.desc).map (fun d => d.parameters.length) = some 2 := by decide +kernel
def fB_X1_floorIn (d : Nat) (g_X1_floorIn : Option Nat → Int32 → Wd → Option (Wd × Option Nat)) (p1 : Option Nat) (p2 : Int32) (w : Wd) : Option (Wd × Option Nat) :=
  (p1).elim
    (some (w, none))
    fun a1 =>
    if (gI w a1 10) = 0 then
      some (w, none)
    else
      if (gI w a1 1) ≤ p2 then
        (g_X1_floorIn (gR w a1 9) p2 w).bind fun r2 =>
        (r2.2).elim
          (if (gI r2.1 a1 6) = 0 then
            some (r2.1, p1)
          else
            (g_X1_floorIn (gR r2.1 a1 8) p2 r2.1).bind fun r3 =>
            some (r3.1, r3.2))
          fun a4 =>
          some (r2.1, r2.2)
      else
        (g_X1_floorIn (gR w a1 8) p2 w).bind fun r5 =>
        some (r5.1, r5.2)
theorem simB_X1_floorIn {G : Gx} (hG : GW G) {l : Launch} (hl : l.stackTraces = false) (d : Nat) {g_X1_floorIn : Option Nat → Int32 → Wd → Option (Wd × Option Nat)} (hg_X1_floorIn : ∀ (p1 : Option Nat) (p2 : Int32) (w : Wd) (fp2 : Bool), Mt G true l yX1_floorIn (ws_ yX1_floorIn cX1_floorIn 3 (some (.object "IntervalTree$Node"))) d (rrV G (pR 4)) [aR 4 p1, aB fp2 p2] w (g_X1_floorIn p1 p2 w)) (p1 : Option Nat) (p2 : Int32) (w : Wd) (fp2 : Bool) : Mt G true l yX1_floorIn (ws_ yX1_floorIn cX1_floorIn 3 (some (.object "IntervalTree$Node"))) (d + 1) (rrV G (pR 4)) [aR 4 p1, aB fp2 p2] w (fB_X1_floorIn d g_X1_floorIn p1 p2 w) := by
  refine Mt.of (own := "IntervalTree") hG hl (by decide +kernel) rfl rfl ?_
  intro M hM hr hnm hxt hnd K
  subst hM
  refine j_aload_n K dX1_floorIn_0 rfl ?_
  refine j_ifnull 11 K dX1_floorIn_1 (by decide) (fun _ => ?_) (fun a1 ha1 => ?_)
  · refine j_null 4 K dX1_floorIn_11 ?_
    exact j_aret K hr (Or.inl ⟨_, rfl⟩) dX1_floorIn_12
  · refine j_aload_n K dX1_floorIn_4 rfl ?_
    refine j_getI (k := 10) K dX1_floorIn_5 rfl rfl rfl q559 rfl rfl ha1 ?_
    refine j_if_ne 13 K dX1_floorIn_8 (by decide) ?_ ?_
    · refine j_aload_n K dX1_floorIn_13 rfl ?_
      refine j_getI (k := 1) K dX1_floorIn_14 rfl rfl rfl q543 rfl rfl ha1 ?_
      refine j_iload_n K dX1_floorIn_17 rfl ?_
      refine j_icmp_le 30 K dX1_floorIn_18 (by decide) ?_ ?_
      · refine j_aload_n K dX1_floorIn_30 rfl ?_
        refine j_getR (k := 9) K dX1_floorIn_31 rfl rfl rfl q557 rfl rfl (by decide) ha1 ?_
        refine j_iload_n K dX1_floorIn_34 rfl ?_
        refine j_callS _ K (hg_X1_floorIn (gR w a1 9) p2 w fp2) dX1_floorIn_35 q395 q396 q93 q397 pm_X1_floorIn.2 rfl rfl rfl rfl (fun r2 _ => ?_)
        refine j_astore_n K dX1_floorIn_38 rfl rfl ?_
        refine j_aload_n K dX1_floorIn_39 rfl ?_
        refine j_ifnull 45 K dX1_floorIn_40 (by decide) (fun _ => ?_) (fun a4 ha4 => ?_)
        · refine j_aload_n K dX1_floorIn_45 rfl ?_
          refine j_getZ (k := 6) K dX1_floorIn_46 rfl rfl rfl q552 rfl rfl rfl ha1 ?_
          refine j_if_eq 63 K dX1_floorIn_49 (by decide) ?_ ?_
          · refine j_aload_n K dX1_floorIn_63 rfl ?_
            exact j_aret K hr (Or.inl ⟨_, rfl⟩) dX1_floorIn_64
          · refine j_aload_n K dX1_floorIn_52 rfl ?_
            refine j_getR (k := 8) K dX1_floorIn_53 rfl rfl rfl q555 rfl rfl (by decide) ha1 ?_
            refine j_iload_n K dX1_floorIn_56 rfl ?_
            refine j_callS _ K (hg_X1_floorIn (gR r2.1 a1 8) p2 r2.1 fp2) dX1_floorIn_57 q395 q396 q93 q397 pm_X1_floorIn.2 rfl rfl rfl rfl (fun r3 _ => ?_)
            refine j_goto 64 K dX1_floorIn_60 (by decide) ?_
            exact j_aret K hr (Or.inl ⟨_, rfl⟩) dX1_floorIn_64
        · refine j_aload_n K dX1_floorIn_43 rfl ?_
          exact j_aret K hr (Or.inl ⟨_, rfl⟩) dX1_floorIn_44
      · refine j_aload_n K dX1_floorIn_21 rfl ?_
        refine j_getR (k := 8) K dX1_floorIn_22 rfl rfl rfl q555 rfl rfl (by decide) ha1 ?_
        refine j_iload_n K dX1_floorIn_25 rfl ?_
        refine j_callS _ K (hg_X1_floorIn (gR w a1 8) p2 w fp2) dX1_floorIn_26 q395 q396 q93 q397 pm_X1_floorIn.2 rfl rfl rfl rfl (fun r5 _ => ?_)
        exact j_aret K hr (Or.inl ⟨_, rfl⟩) dX1_floorIn_29
    · refine j_null 4 K dX1_floorIn_11 ?_
      exact j_aret K hr (Or.inl ⟨_, rfl⟩) dX1_floorIn_12
def f_X1_floorIn : Nat → Option Nat → Int32 → Wd → Option (Wd × Option Nat)
  | 0 => fun _ _ _ => none
  | d + 1 => fB_X1_floorIn d (f_X1_floorIn d)
theorem sim_X1_floorIn {G : Gx} (hG : GW G) {l : Launch} (hl : l.stackTraces = false) : ∀ (d : Nat) (p1 : Option Nat) (p2 : Int32) (w : Wd) (fp2 : Bool), Mt G true l yX1_floorIn (ws_ yX1_floorIn cX1_floorIn 3 (some (.object "IntervalTree$Node"))) d (rrV G (pR 4)) [aR 4 p1, aB fp2 p2] w (f_X1_floorIn d p1 p2 w) := by
  intro d
  induction d with
  | zero => intros; exact fun _ h => by cases h
  | succ d ih => exact simB_X1_floorIn hG hl d ih

theorem pm_X1_floor : yX1_floor.cls = RX1 ∧ yX1_floor.cls ≠ "java/lang/invoke/MethodHandle" ∧ yX1_floor.cls ≠ "java/lang/invoke/VarHandle" ∧ (parseMethodDescriptor yX1_floor.desc).map (fun d => d.parameters.length) = some 1 := by decide +kernel
def f_X1_floor (d : Nat) (p1 : Int32) (w : Wd) : Option (Wd × Int32) :=
  match d with
  | 0 => none
  | d + 1 =>
    (f_X1_floorIn d (gR w 8 4) p1 w).bind fun r1 =>
    (f_X1_idOf d r1.2 r1.1).bind fun r2 =>
    some (r2.1, r2.2)
theorem sim_X1_floor {G : Gx} (hG : GW G) {l : Launch} (hl : l.stackTraces = false) (d : Nat) (p1 : Int32) (w : Wd) (fp1 : Bool) : Mt G true l yX1_floor (ws_ yX1_floor cX1_floor 2 (some .int)) d (rrV G pI) [aR 1 (some 8), aB fp1 p1] w (f_X1_floor d p1 w) := by
  refine Mt.of (own := "IntervalTree") hG hl (by decide +kernel) rfl rfl ?_
  intro M hM hr hnm hxt hnd K
  subst hM
  cases d with
  | zero => exact j_none
  | succ d =>
    refine j_aload_n K dX1_floor_0 rfl ?_
    refine j_getR (k := 4) K dX1_floor_1 rfl rfl rfl q185 rfl rfl (by decide) rfl ?_
    refine j_iload_n K dX1_floor_4 rfl ?_
    refine j_callS _ K (sim_X1_floorIn hG hl d (gR w 8 4) p1 w fp1) dX1_floor_5 q395 q396 q93 q397 pm_X1_floorIn.2 rfl rfl rfl rfl (fun r1 _ => ?_)
    refine j_callS _ K (sim_X1_idOf hG hl d r1.2 r1.1) dX1_floor_8 q398 q399 q93 q400 pm_X1_idOf.2 rfl rfl rfl rfl (fun r2 _ => ?_)
    exact j_iret K hr dX1_floor_11

theorem pm_X4_isBeforeKey : yX4_isBeforeKey.cls = RX4 ∧ yX4_isBeforeKey.cls ≠ "java/lang/invoke/MethodHandle" ∧ yX4_isBeforeKey.cls ≠ "java/lang/invoke/VarHandle" ∧ (parseMethodDescriptor yX4_isBeforeKey.desc).map (fun d => d.parameters.length) = some 3 := by decide +kernel
def f_X4_isBeforeKey (d : Nat) (a0 : Nat) (p1 : Int32) (p2 : Int32) (p3 : Int32) (w : Wd) : Option (Wd × Int32) :=
  match d with
  | 0 => none
  | d + 1 =>
    if (gI w a0 1) = p1 then
      if (gI w a0 2) = p2 then
        if p3 ≤ (gI w a0 0) then
          some (w, 0)
        else
          some (w, 1)
      else
        if p2 ≤ (gI w a0 2) then
          some (w, 0)
        else
          some (w, 1)
    else
      if p1 ≤ (gI w a0 1) then
        some (w, 0)
      else
        some (w, 1)
theorem sim_X4_isBeforeKey {G : Gx} (hG : GW G) {l : Launch} (hl : l.stackTraces = false) (d : Nat) (a0 : Nat) (p1 : Int32) (p2 : Int32) (p3 : Int32) (w : Wd) (fp1 : Bool) (fp2 : Bool) (fp3 : Bool) : Mt G true l yX4_isBeforeKey (ws_ yX4_isBeforeKey cX4_isBeforeKey 4 (some .boolean)) d (rrV G pZ) [aR 4 (some a0), aB fp1 p1, aB fp2 p2, aB fp3 p3] w (f_X4_isBeforeKey d a0 p1 p2 p3 w) := by
  refine Mt.of (own := "IntervalTree$Node") hG hl (by decide +kernel) rfl rfl ?_
  intro M hM hr hnm hxt hnd K
  subst hM
  cases d with
  | zero => exact j_none
  | succ d =>
    refine j_aload_n K dX4_isBeforeKey_0 rfl ?_
    refine j_getI (k := 1) K dX4_isBeforeKey_1 rfl rfl rfl q542 rfl rfl rfl ?_
    refine j_iload_n K dX4_isBeforeKey_4 rfl ?_
    refine j_icmp_eq 22 K dX4_isBeforeKey_5 (by decide) ?_ ?_
    · refine j_aload_n K dX4_isBeforeKey_22 rfl ?_
      refine j_getI (k := 2) K dX4_isBeforeKey_23 rfl rfl rfl q544 rfl rfl rfl ?_
      refine j_iload_n K dX4_isBeforeKey_26 rfl ?_
      refine j_icmp_eq 46 K dX4_isBeforeKey_27 (by decide) ?_ ?_
      · refine j_aload_n K dX4_isBeforeKey_46 rfl ?_
        refine j_getI (k := 0) K dX4_isBeforeKey_47 rfl rfl rfl q540 rfl rfl rfl ?_
        refine j_iload_n K dX4_isBeforeKey_50 rfl ?_
        refine j_icmp_ge 58 K dX4_isBeforeKey_51 (by decide) ?_ ?_
        · refine j_iconstZ K dX4_isBeforeKey_58 rfl (Or.inl rfl) ?_
          exact j_zret K hr dX4_isBeforeKey_59
        · refine j_iconstZ K dX4_isBeforeKey_54 rfl (Or.inr rfl) ?_
          refine j_goto 59 K dX4_isBeforeKey_55 (by decide) ?_
          exact j_zret K hr dX4_isBeforeKey_59
      · refine j_aload_n K dX4_isBeforeKey_30 rfl ?_
        refine j_getI (k := 2) K dX4_isBeforeKey_31 rfl rfl rfl q544 rfl rfl rfl ?_
        refine j_iload_n K dX4_isBeforeKey_34 rfl ?_
        refine j_icmp_ge 42 K dX4_isBeforeKey_35 (by decide) ?_ ?_
        · refine j_iconstZ K dX4_isBeforeKey_42 rfl (Or.inl rfl) ?_
          refine j_goto 59 K dX4_isBeforeKey_43 (by decide) ?_
          exact j_zret K hr dX4_isBeforeKey_59
        · refine j_iconstZ K dX4_isBeforeKey_38 rfl (Or.inr rfl) ?_
          refine j_goto 59 K dX4_isBeforeKey_39 (by decide) ?_
          exact j_zret K hr dX4_isBeforeKey_59
    · refine j_aload_n K dX4_isBeforeKey_8 rfl ?_
      refine j_getI (k := 1) K dX4_isBeforeKey_9 rfl rfl rfl q542 rfl rfl rfl ?_
      refine j_iload_n K dX4_isBeforeKey_12 rfl ?_
      refine j_icmp_ge 20 K dX4_isBeforeKey_13 (by decide) ?_ ?_
      · refine j_iconstZ K dX4_isBeforeKey_20 rfl (Or.inl rfl) ?_
        exact j_zret K hr dX4_isBeforeKey_21
      · refine j_iconstZ K dX4_isBeforeKey_16 rfl (Or.inr rfl) ?_
        refine j_goto 21 K dX4_isBeforeKey_17 (by decide) ?_
        exact j_zret K hr dX4_isBeforeKey_21

theorem pm_X1_ceilingIn : yX1_ceilingIn.cls = RX1 ∧ yX1_ceilingIn.cls ≠ "java/lang/invoke/MethodHandle" ∧ yX1_ceilingIn.cls ≠ "java/lang/invoke/VarHandle" ∧ (parseMethodDescriptor yX1_ceilingIn.desc).map (fun d => d.parameters.length) = some 4 := by decide +kernel
def fB_X1_ceilingIn (d : Nat) (g_X1_ceilingIn : Option Nat → Int32 → Int32 → Int32 → Wd → Option (Wd × Option Nat)) (p1 : Option Nat) (p2 : Int32) (p3 : Int32) (p4 : Int32) (w : Wd) : Option (Wd × Option Nat) :=
  (p1).elim
    (some (w, none))
    fun a1 =>
    if (gI w a1 10) = 0 then
      some (w, none)
    else
      (f_X4_isBeforeKey d a1 p2 p3 p4 w).bind fun r2 =>
      if r2.2 = 0 then
        (g_X1_ceilingIn (gR r2.1 a1 8) p2 p3 p4 r2.1).bind fun r3 =>
        (r3.2).elim
          (if (gI r3.1 a1 6) = 0 then
            some (r3.1, p1)
          else
            (g_X1_ceilingIn (gR r3.1 a1 9) p2 p3 p4 r3.1).bind fun r4 =>
            some (r4.1, r4.2))
          fun a5 =>
          some (r3.1, r3.2)
      else
        (g_X1_ceilingIn (gR r2.1 a1 9) p2 p3 p4 r2.1).bind fun r6 =>
        some (r6.1, r6.2)
theorem simB_X1_ceilingIn {G : Gx} (hG : GW G) {l : Launch} (hl : l.stackTraces = false) (d : Nat) {g_X1_ceilingIn : Option Nat → Int32 → Int32 → Int32 → Wd → Option (Wd × Option Nat)} (hg_X1_ceilingIn : ∀ (p1 : Option Nat) (p2 : Int32) (p3 : Int32) (p4 : Int32) (w : Wd) (fp2 : Bool) (fp3 : Bool) (fp4 : Bool), Mt G true l yX1_ceilingIn (ws_ yX1_ceilingIn cX1_ceilingIn 5 (some (.object "IntervalTree$Node"))) d (rrV G (pR 4)) [aR 4 p1, aB fp2 p2, aB fp3 p3, aB fp4 p4] w (g_X1_ceilingIn p1 p2 p3 p4 w)) (p1 : Option Nat) (p2 : Int32) (p3 : Int32) (p4 : Int32) (w : Wd) (fp2 : Bool) (fp3 : Bool) (fp4 : Bool) : Mt G true l yX1_ceilingIn (ws_ yX1_ceilingIn cX1_ceilingIn 5 (some (.object "IntervalTree$Node"))) (d + 1) (rrV G (pR 4)) [aR 4 p1, aB fp2 p2, aB fp3 p3, aB fp4 p4] w (fB_X1_ceilingIn d g_X1_ceilingIn p1 p2 p3 p4 w) := by
  refine Mt.of (own := "IntervalTree") hG hl (by decide +kernel) rfl rfl ?_
  intro M hM hr hnm hxt hnd K
  subst hM
  refine j_aload_n K dX1_ceilingIn_0 rfl ?_
  refine j_ifnull 11 K dX1_ceilingIn_1 (by decide) (fun _ => ?_) (fun a1 ha1 => ?_)
  · refine j_null 4 K dX1_ceilingIn_11 ?_
    exact j_aret K hr (Or.inl ⟨_, rfl⟩) dX1_ceilingIn_12
  · refine j_aload_n K dX1_ceilingIn_4 rfl ?_
    refine j_getI (k := 10) K dX1_ceilingIn_5 rfl rfl rfl q559 rfl rfl ha1 ?_
    refine j_if_ne 13 K dX1_ceilingIn_8 (by decide) ?_ ?_
    · refine j_aload_n K dX1_ceilingIn_13 rfl ?_
      refine j_iload_n K dX1_ceilingIn_14 rfl ?_
      refine j_iload_n K dX1_ceilingIn_15 rfl ?_
      refine j_iload_n K dX1_ceilingIn_16 rfl ?_
      refine j_callV _ K (sim_X4_isBeforeKey hG hl d a1 p2 p3 p4 w fp2 fp3 fp4) dX1_ceilingIn_17 rfl rfl q409 q410 q411 q102 q412 pm_X4_isBeforeKey rfl rfl rfl ha1 rfl (fun r2 _ => ?_)
      refine j_if_eq 34 K dX1_ceilingIn_20 (by decide) ?_ ?_
      · refine j_aload_n K dX1_ceilingIn_34 rfl ?_
        refine j_getR (k := 8) K dX1_ceilingIn_35 rfl rfl rfl q555 rfl rfl (by decide) ha1 ?_
        refine j_iload_n K dX1_ceilingIn_38 rfl ?_
        refine j_iload_n K dX1_ceilingIn_39 rfl ?_
        refine j_iload_n K dX1_ceilingIn_40 rfl ?_
        refine j_callS _ K (hg_X1_ceilingIn (gR r2.1 a1 8) p2 p3 p4 r2.1 fp2 fp3 fp4) dX1_ceilingIn_41 q406 q407 q93 q408 pm_X1_ceilingIn.2 rfl rfl rfl rfl (fun r3 _ => ?_)
        refine j_astore K dX1_ceilingIn_44 rfl rfl ?_
        refine j_aload K dX1_ceilingIn_46 rfl ?_
        refine j_ifnull 54 K dX1_ceilingIn_48 (by decide) (fun _ => ?_) (fun a5 ha5 => ?_)
        · refine j_aload_n K dX1_ceilingIn_54 rfl ?_
          refine j_getZ (k := 6) K dX1_ceilingIn_55 rfl rfl rfl q552 rfl rfl rfl ha1 ?_
          refine j_if_eq 74 K dX1_ceilingIn_58 (by decide) ?_ ?_
          · refine j_aload_n K dX1_ceilingIn_74 rfl ?_
            exact j_aret K hr (Or.inl ⟨_, rfl⟩) dX1_ceilingIn_75
          · refine j_aload_n K dX1_ceilingIn_61 rfl ?_
            refine j_getR (k := 9) K dX1_ceilingIn_62 rfl rfl rfl q557 rfl rfl (by decide) ha1 ?_
            refine j_iload_n K dX1_ceilingIn_65 rfl ?_
            refine j_iload_n K dX1_ceilingIn_66 rfl ?_
            refine j_iload_n K dX1_ceilingIn_67 rfl ?_
            refine j_callS _ K (hg_X1_ceilingIn (gR r3.1 a1 9) p2 p3 p4 r3.1 fp2 fp3 fp4) dX1_ceilingIn_68 q406 q407 q93 q408 pm_X1_ceilingIn.2 rfl rfl rfl rfl (fun r4 _ => ?_)
            refine j_goto 75 K dX1_ceilingIn_71 (by decide) ?_
            exact j_aret K hr (Or.inl ⟨_, rfl⟩) dX1_ceilingIn_75
        · refine j_aload K dX1_ceilingIn_51 rfl ?_
          exact j_aret K hr (Or.inl ⟨_, rfl⟩) dX1_ceilingIn_53
      · refine j_aload_n K dX1_ceilingIn_23 rfl ?_
        refine j_getR (k := 9) K dX1_ceilingIn_24 rfl rfl rfl q557 rfl rfl (by decide) ha1 ?_
        refine j_iload_n K dX1_ceilingIn_27 rfl ?_
        refine j_iload_n K dX1_ceilingIn_28 rfl ?_
        refine j_iload_n K dX1_ceilingIn_29 rfl ?_
        refine j_callS _ K (hg_X1_ceilingIn (gR r2.1 a1 9) p2 p3 p4 r2.1 fp2 fp3 fp4) dX1_ceilingIn_30 q406 q407 q93 q408 pm_X1_ceilingIn.2 rfl rfl rfl rfl (fun r6 _ => ?_)
        exact j_aret K hr (Or.inl ⟨_, rfl⟩) dX1_ceilingIn_33
    · refine j_null 4 K dX1_ceilingIn_11 ?_
      exact j_aret K hr (Or.inl ⟨_, rfl⟩) dX1_ceilingIn_12
def f_X1_ceilingIn : Nat → Option Nat → Int32 → Int32 → Int32 → Wd → Option (Wd × Option Nat)
  | 0 => fun _ _ _ _ _ => none
  | d + 1 => fB_X1_ceilingIn d (f_X1_ceilingIn d)
theorem sim_X1_ceilingIn {G : Gx} (hG : GW G) {l : Launch} (hl : l.stackTraces = false) : ∀ (d : Nat) (p1 : Option Nat) (p2 : Int32) (p3 : Int32) (p4 : Int32) (w : Wd) (fp2 : Bool) (fp3 : Bool) (fp4 : Bool), Mt G true l yX1_ceilingIn (ws_ yX1_ceilingIn cX1_ceilingIn 5 (some (.object "IntervalTree$Node"))) d (rrV G (pR 4)) [aR 4 p1, aB fp2 p2, aB fp3 p3, aB fp4 p4] w (f_X1_ceilingIn d p1 p2 p3 p4 w) := by
  intro d
  induction d with
  | zero => intros; exact fun _ h => by cases h
  | succ d ih => exact simB_X1_ceilingIn hG hl d ih

theorem pm_X1_ceiling : yX1_ceiling.cls = RX1 ∧ yX1_ceiling.cls ≠ "java/lang/invoke/MethodHandle" ∧ yX1_ceiling.cls ≠ "java/lang/invoke/VarHandle" ∧ (parseMethodDescriptor yX1_ceiling.desc).map (fun d => d.parameters.length) = some 1 := by decide +kernel
def f_X1_ceiling (d : Nat) (p1 : Int32) (w : Wd) : Option (Wd × Int32) :=
  match d with
  | 0 => none
  | d + 1 =>
    (f_X1_ceilingIn d (gR w 8 4) p1 (-2147483648) (-1) w).bind fun r1 =>
    (f_X1_idOf d r1.2 r1.1).bind fun r2 =>
    some (r2.1, r2.2)
theorem sim_X1_ceiling {G : Gx} (hG : GW G) {l : Launch} (hl : l.stackTraces = false) (d : Nat) (p1 : Int32) (w : Wd) (fp1 : Bool) : Mt G true l yX1_ceiling (ws_ yX1_ceiling cX1_ceiling 2 (some .int)) d (rrV G pI) [aR 1 (some 8), aB fp1 p1] w (f_X1_ceiling d p1 w) := by
  refine Mt.of (own := "IntervalTree") hG hl (by decide +kernel) rfl rfl ?_
  intro M hM hr hnm hxt hnd K
  subst hM
  cases d with
  | zero => exact j_none
  | succ d =>
    refine j_aload_n K dX1_ceiling_0 rfl ?_
    refine j_getR (k := 4) K dX1_ceiling_1 rfl rfl rfl q185 rfl rfl (by decide) rfl ?_
    refine j_iload_n K dX1_ceiling_4 rfl ?_
    refine j_ldc_w (x := (-2147483648)) K dX1_ceiling_5 q405 ?_
    refine j_iconst (x := (-1)) K dX1_ceiling_8 rfl ?_
    refine j_callS _ K (sim_X1_ceilingIn hG hl d (gR w 8 4) p1 (-2147483648) (-1) w fp1 false false) dX1_ceiling_9 q406 q407 q93 q408 pm_X1_ceilingIn.2 rfl rfl rfl rfl (fun r1 _ => ?_)
    refine j_callS _ K (sim_X1_idOf hG hl d r1.2 r1.1) dX1_ceiling_12 q398 q399 q93 q400 pm_X1_idOf.2 rfl rfl rfl rfl (fun r2 _ => ?_)
    exact j_iret K hr dX1_ceiling_15

theorem pm_X1_overlapCount : yX1_overlapCount.cls = RX1 ∧ yX1_overlapCount.cls ≠ "java/lang/invoke/MethodHandle" ∧ yX1_overlapCount.cls ≠ "java/lang/invoke/VarHandle" ∧ (parseMethodDescriptor yX1_overlapCount.desc).map (fun d => d.parameters.length) = some 0 := by decide +kernel
def b_X1_overlapCount_58 (d : Nat) (k8 : Int32 → Int32 → Wd → Option (Wd × Int32)) (x1 : Int32) (x2 : Int32) (w : Wd) : Option (Wd × Int32) :=
  k8 x1 (x2 + 1) w
def b_X1_overlapCount_20 (d : Nat) : Nat → (Int32 → Int32 → Wd → Option (Wd × Int32)) → Int32 → Int32 → Int32 → Wd → Option (Wd × Int32)
  | 0, _, _, _, _, _ => none
  | n + 1, k8, x1, x2, x3, w =>
    if (gI w 8 13) ≤ x3 then
      b_X1_overlapCount_58 d k8 x1 x2 w
    else
      if ib x3 100 = true then
        (gR w 19 x3.toNatClampNeg).bind fun a3 =>
        if ib x2 100 = true then
          (gR w 19 x2.toNatClampNeg).bind fun a5 =>
          if (gI w a5 2) < (gI w a3 1) then
            b_X1_overlapCount_58 d k8 x1 x2 w
          else
            b_X1_overlapCount_20 d n k8 (x1 + 1) x2 (x3 + 1) w
        else none
      else none
def b_X1_overlapCount_8 (d : Nat) : Nat → Int32 → Int32 → Wd → Option (Wd × Int32)
  | 0, _, _, _ => none
  | n + 1, x1, x2, w =>
    if (gI w 8 13) ≤ x2 then
      some (w, x1)
    else
      b_X1_overlapCount_20 d FU (b_X1_overlapCount_8 d n) x1 x2 (x2 + 1) w
def f_X1_overlapCount (d : Nat) (w : Wd) : Option (Wd × Int32) :=
  match d with
  | 0 => none
  | d + 1 =>
    (f_X1_collectLive d w).bind fun r1 =>
    b_X1_overlapCount_8 d FU 0 0 r1.1
theorem sb_X1_overlapCount_58 {G : Gx} (hG : GW G) {M : Mx} (hl : (mL M).stackTraces = false) {w0 : Wd} {d : Nat} (K : Cx (G, true, M, 4, w0) cX1_overlapCount "IntervalTree" (d + 1)) (hr : (mH M).sig.returnType = some .int) (hnm : (mH M).name = yX1_overlapCount.name) (hxt : ∀ x ∈ (mC M).exceptionTable.toList, False) (hnd : (mS M).methodNamed? yX1_overlapCount = some (mM M)) {k8 : Int32 → Int32 → Wd → Option (Wd × Int32)} (hk8 : ∀ (x1 : Int32) (x2 : Int32) (w : Wd) (fx1 : Bool) (fx2 : Bool), Jf (G, true, M, 4, w0) (rrV G pI) (k8 x1 x2 w) w 8 [some (aR 1 (some 8)), some (aB fx1 x1), some (aB fx2 x2), none] []) : ∀ (x1 : Int32) (x2 : Int32) (w : Wd) (fx1 : Bool) (fx2 : Bool), Jf (G, true, M, 4, w0) (rrV G pI) (b_X1_overlapCount_58 d k8 x1 x2 w) w 58 [some (aR 1 (some 8)), some (aB fx1 x1), some (aB fx2 x2), none] [] := by
  intro x1 x2 w fx1 fx2
  refine j_iinc (y := 1) K dX1_overlapCount_58 rfl rfl rfl rfl ?_
  refine j_goto 8 K dX1_overlapCount_61 (by decide) ?_
  exact j_wk (hk8 _ _ _ _ _) ⟨rfl, rfl, rfl, trivial⟩
theorem sb_X1_overlapCount_20 {G : Gx} (hG : GW G) {M : Mx} (hl : (mL M).stackTraces = false) {w0 : Wd} {d : Nat} (K : Cx (G, true, M, 4, w0) cX1_overlapCount "IntervalTree" (d + 1)) (hr : (mH M).sig.returnType = some .int) (hnm : (mH M).name = yX1_overlapCount.name) (hxt : ∀ x ∈ (mC M).exceptionTable.toList, False) (hnd : (mS M).methodNamed? yX1_overlapCount = some (mM M)) {k8 : Int32 → Int32 → Wd → Option (Wd × Int32)} (hk8 : ∀ (x1 : Int32) (x2 : Int32) (w : Wd) (fx1 : Bool) (fx2 : Bool), Jf (G, true, M, 4, w0) (rrV G pI) (k8 x1 x2 w) w 8 [some (aR 1 (some 8)), some (aB fx1 x1), some (aB fx2 x2), none] []) : ∀ (n : Nat), ∀ (x1 : Int32) (x2 : Int32) (x3 : Int32) (w : Wd) (fx1 : Bool) (fx2 : Bool) (fx3 : Bool), Jf (G, true, M, 4, w0) (rrV G pI) (b_X1_overlapCount_20 d n k8 x1 x2 x3 w) w 20 [some (aR 1 (some 8)), some (aB fx1 x1), some (aB fx2 x2), some (aB fx3 x3)] [] := by
  intro n
  induction n with
  | zero => intros; exact j_none
  | succ n ih =>
    intro x1 x2 x3 w fx1 fx2 fx3
    refine j_iload_n K dX1_overlapCount_20 rfl ?_
    refine j_aload_n K dX1_overlapCount_21 rfl ?_
    refine j_getI (k := 13) K dX1_overlapCount_22 rfl rfl rfl q194 rfl rfl rfl ?_
    refine j_icmp_ge 58 K dX1_overlapCount_25 (by decide) ?_ ?_
    · exact j_wk (sb_X1_overlapCount_58 hG hl K hr hnm hxt hnd hk8 _ _ _ _ _) ⟨rfl, rfl, rfl, trivial⟩
    · refine j_aload_n K dX1_overlapCount_28 rfl ?_
      refine j_getA (k := 12) 4 K dX1_overlapCount_29 rfl rfl rfl q193 rfl rfl (by decide) rfl rfl rfl ?_
      refine j_iload_n K dX1_overlapCount_32 rfl ?_
      refine j_ib (fun hi2 => ?_)
      refine j_aal K dX1_overlapCount_33 rfl (fun _ => rfl) (by decide) rfl rfl (fxLen 4 rfl rfl) hi2 ?_
      refine j_nn (fun a3 ha3 => ?_)
      refine j_getI (k := 1) K dX1_overlapCount_34 rfl rfl rfl q543 rfl rfl ha3 ?_
      refine j_aload_n K dX1_overlapCount_37 rfl ?_
      refine j_getA (k := 12) 4 K dX1_overlapCount_38 rfl rfl rfl q193 rfl rfl (by decide) rfl rfl rfl ?_
      refine j_iload_n K dX1_overlapCount_41 rfl ?_
      refine j_ib (fun hi4 => ?_)
      refine j_aal K dX1_overlapCount_42 rfl (fun _ => rfl) (by decide) rfl rfl (fxLen 4 rfl rfl) hi4 ?_
      refine j_nn (fun a5 ha5 => ?_)
      refine j_getI (k := 2) K dX1_overlapCount_43 rfl rfl rfl q545 rfl rfl ha5 ?_
      refine j_icmp_gt 58 K dX1_overlapCount_46 (by decide) ?_ ?_
      · exact j_wk (sb_X1_overlapCount_58 hG hl K hr hnm hxt hnd hk8 _ _ _ _ _) ⟨rfl, rfl, rfl, trivial⟩
      · refine j_iinc (y := 1) K dX1_overlapCount_49 rfl rfl rfl rfl ?_
        refine j_iinc (y := 1) K dX1_overlapCount_52 rfl rfl rfl rfl ?_
        refine j_goto 20 K dX1_overlapCount_55 (by decide) ?_
        exact ih _ _ _ _ _ _ _
theorem sb_X1_overlapCount_8 {G : Gx} (hG : GW G) {M : Mx} (hl : (mL M).stackTraces = false) {w0 : Wd} {d : Nat} (K : Cx (G, true, M, 4, w0) cX1_overlapCount "IntervalTree" (d + 1)) (hr : (mH M).sig.returnType = some .int) (hnm : (mH M).name = yX1_overlapCount.name) (hxt : ∀ x ∈ (mC M).exceptionTable.toList, False) (hnd : (mS M).methodNamed? yX1_overlapCount = some (mM M)) : ∀ (n : Nat), ∀ (x1 : Int32) (x2 : Int32) (w : Wd) (fx1 : Bool) (fx2 : Bool), Jf (G, true, M, 4, w0) (rrV G pI) (b_X1_overlapCount_8 d n x1 x2 w) w 8 [some (aR 1 (some 8)), some (aB fx1 x1), some (aB fx2 x2), none] [] := by
  intro n
  induction n with
  | zero => intros; exact j_none
  | succ n ih =>
    intro x1 x2 w fx1 fx2
    refine j_iload_n K dX1_overlapCount_8 rfl ?_
    refine j_aload_n K dX1_overlapCount_9 rfl ?_
    refine j_getI (k := 13) K dX1_overlapCount_10 rfl rfl rfl q194 rfl rfl rfl ?_
    refine j_icmp_ge 64 K dX1_overlapCount_13 (by decide) ?_ ?_
    · refine j_iload_n K dX1_overlapCount_64 rfl ?_
      exact j_iret K hr dX1_overlapCount_65
    · refine j_iload_n K dX1_overlapCount_16 rfl ?_
      refine j_iconstZ K dX1_overlapCount_17 rfl (Or.inr rfl) ?_
      refine j_iadd K dX1_overlapCount_18 ?_
      refine j_istore_n K dX1_overlapCount_19 rfl rfl ?_
      exact sb_X1_overlapCount_20 hG hl K hr hnm hxt hnd ih FU _ _ _ _ _ _ _
theorem sim_X1_overlapCount {G : Gx} (hG : GW G) {l : Launch} (hl : l.stackTraces = false) (d : Nat) (w : Wd) : Mt G true l yX1_overlapCount (ws_ yX1_overlapCount cX1_overlapCount 4 (some .int)) d (rrV G pI) [aR 1 (some 8)] w (f_X1_overlapCount d w) := by
  refine Mt.of (own := "IntervalTree") hG hl (by decide +kernel) rfl rfl ?_
  intro M hM hr hnm hxt hnd K
  subst hM
  cases d with
  | zero => exact j_none
  | succ d =>
    refine j_aload_n K dX1_overlapCount_0 rfl ?_
    refine j_callV _ K (sim_X1_collectLive hG hl d w) dX1_overlapCount_1 rfl rfl q297 q299 qs3 q93 q300 pm_X1_collectLive rfl rfl rfl rfl rfl (fun r1 _ => ?_)
    refine j_iconstZ K dX1_overlapCount_4 rfl (Or.inl rfl) ?_
    refine j_istore_n K dX1_overlapCount_5 rfl rfl ?_
    refine j_iconstZ K dX1_overlapCount_6 rfl (Or.inl rfl) ?_
    refine j_istore_n K dX1_overlapCount_7 rfl rfl ?_
    exact j_wk (sb_X1_overlapCount_8 hG hl K hr hnm hxt hnd FU _ _ _ _ _) ⟨rfl, rfl, rfl, trivial⟩

theorem pm_X1_schedule : yX1_schedule.cls = RX1 ∧ yX1_schedule.cls ≠ "java/lang/invoke/MethodHandle" ∧ yX1_schedule.cls ≠ "java/lang/invoke/VarHandle" ∧ (parseMethodDescriptor yX1_schedule.desc).map (fun d => d.parameters.length) = some 0 := by decide +kernel
def b_X1_schedule_64 (d : Nat) (k21 : Int32 → Wd → Option (Wd × Unit)) (x1 : Int32) (x2 : Int32) (w : Wd) : Option (Wd × Unit) :=
  if ib x1 100 = true then
    if ib (x1 + 1) 101 = true then
      (gR (sI w 21 x1.toNatClampNeg x2) 19 x1.toNatClampNeg).bind fun a5 =>
      if ib x2 101 = true then
        if ib x1 101 = true then
          k21 (x1 + (-1)) (sI (sI w 21 x1.toNatClampNeg x2) 20 x1.toNatClampNeg (mmax (gI (sI w 21 x1.toNatClampNeg x2) 20 (x1 + 1).toNatClampNeg) ((gI (sI w 21 x1.toNatClampNeg x2) a5 3) + (gI (sI w 21 x1.toNatClampNeg x2) 20 x2.toNatClampNeg))))
        else none
      else none
    else none
  else none
def b_X1_schedule_29 (d : Nat) : Nat → (Int32 → Wd → Option (Wd × Unit)) → Int32 → Int32 → Wd → Option (Wd × Unit)
  | 0, _, _, _, _ => none
  | n + 1, k21, x1, x2, w =>
    if (gI w 8 13) ≤ x2 then
      b_X1_schedule_64 d k21 x1 x2 w
    else
      if ib x2 100 = true then
        (gR w 19 x2.toNatClampNeg).bind fun a4 =>
        if ib x1 100 = true then
          (gR w 19 x1.toNatClampNeg).bind fun a6 =>
          if (gI w a6 2) < (gI w a4 1) then
            b_X1_schedule_64 d k21 x1 x2 w
          else
            b_X1_schedule_29 d n k21 x1 (x2 + 1) w
        else none
      else none
def b_X1_schedule_21 (d : Nat) : Nat → Int32 → Wd → Option (Wd × Unit)
  | 0, _, _ => none
  | n + 1, x1, w =>
    if x1 < 0 then
      some (w, ())
    else
      b_X1_schedule_29 d FU (b_X1_schedule_21 d n) x1 (x1 + 1) w
def f_X1_schedule (d : Nat) (w : Wd) : Option (Wd × Unit) :=
  match d with
  | 0 => none
  | d + 1 =>
    (f_X1_collectLive d w).bind fun r1 =>
    if ib (gI r1.1 8 13) 101 = true then
      b_X1_schedule_21 d FU ((gI (sI r1.1 20 (gI r1.1 8 13).toNatClampNeg 0) 8 13) - 1) (sI r1.1 20 (gI r1.1 8 13).toNatClampNeg 0)
    else none
theorem sb_X1_schedule_64 {G : Gx} (hG : GW G) {M : Mx} (hl : (mL M).stackTraces = false) {w0 : Wd} {d : Nat} (K : Cx (G, true, M, 3, w0) cX1_schedule "IntervalTree" (d + 1)) (hr : (mH M).sig.returnType = none) (hnm : (mH M).name = yX1_schedule.name) (hxt : ∀ x ∈ (mC M).exceptionTable.toList, False) (hnd : (mS M).methodNamed? yX1_schedule = some (mM M)) {k21 : Int32 → Wd → Option (Wd × Unit)} (hk21 : ∀ (x1 : Int32) (w : Wd) (fx1 : Bool), Jf (G, true, M, 3, w0) (rrV G pU) (k21 x1 w) w 21 [some (aR 1 (some 8)), some (aB fx1 x1), none] []) : ∀ (x1 : Int32) (x2 : Int32) (w : Wd) (fx1 : Bool) (fx2 : Bool), Jf (G, true, M, 3, w0) (rrV G pU) (b_X1_schedule_64 d k21 x1 x2 w) w 64 [some (aR 1 (some 8)), some (aB fx1 x1), some (aB fx2 x2)] [] := by
  intro x1 x2 w fx1 fx2
  refine j_aload_n K dX1_schedule_64 rfl ?_
  refine j_getA (k := 19) 6 K dX1_schedule_65 rfl rfl rfl q200 rfl rfl (by decide) rfl rfl rfl ?_
  refine j_iload_n K dX1_schedule_68 rfl ?_
  refine j_iload_n K dX1_schedule_69 rfl ?_
  refine j_ib (fun hi3 => ?_)
  refine j_ias K dX1_schedule_70 rfl (fxLen2 6 rfl rfl) hi3 ?_
  refine j_aload_n K dX1_schedule_71 rfl ?_
  refine j_getA (k := 18) 5 K dX1_schedule_72 rfl rfl rfl q199 rfl rfl (by decide) rfl rfl rfl ?_
  refine j_iload_n K dX1_schedule_75 rfl ?_
  refine j_aload_n K dX1_schedule_76 rfl ?_
  refine j_getA (k := 18) 5 K dX1_schedule_77 rfl rfl rfl q199 rfl rfl (by decide) rfl rfl rfl ?_
  refine j_iload_n K dX1_schedule_80 rfl ?_
  refine j_iconstZ K dX1_schedule_81 rfl (Or.inr rfl) ?_
  refine j_iadd K dX1_schedule_82 ?_
  refine j_ib (fun hi4 => ?_)
  refine j_ial K dX1_schedule_83 rfl (fxLen 5 rfl rfl) hi4 ?_
  refine j_aload_n K dX1_schedule_84 rfl ?_
  refine j_getA (k := 12) 4 K dX1_schedule_85 rfl rfl rfl q193 rfl rfl (by decide) rfl rfl rfl ?_
  refine j_iload_n K dX1_schedule_88 rfl ?_
  refine j_aal K dX1_schedule_89 rfl (fun _ => rfl) (by decide) rfl rfl (fxLen 4 rfl rfl) hi3 ?_
  refine j_nn (fun a5 ha5 => ?_)
  refine j_getI (k := 3) K dX1_schedule_90 rfl rfl rfl q547 rfl rfl ha5 ?_
  refine j_aload_n K dX1_schedule_93 rfl ?_
  refine j_getA (k := 18) 5 K dX1_schedule_94 rfl rfl rfl q199 rfl rfl (by decide) rfl rfl rfl ?_
  refine j_iload_n K dX1_schedule_97 rfl ?_
  refine j_ib (fun hi6 => ?_)
  refine j_ial K dX1_schedule_98 rfl (fxLen 5 rfl rfl) hi6 ?_
  refine j_iadd K dX1_schedule_99 ?_
  refine j_mmax K dX1_schedule_100 q358 rfl ?_
  refine j_ib (fun hi7 => ?_)
  refine j_ias K dX1_schedule_103 rfl (fxLen2 5 rfl rfl) hi7 ?_
  refine j_iinc (y := (-1)) K dX1_schedule_104 rfl rfl rfl rfl ?_
  refine j_goto 21 K dX1_schedule_107 (by decide) ?_
  exact j_wk (hk21 _ _ _) ⟨rfl, rfl, trivial⟩
theorem sb_X1_schedule_29 {G : Gx} (hG : GW G) {M : Mx} (hl : (mL M).stackTraces = false) {w0 : Wd} {d : Nat} (K : Cx (G, true, M, 3, w0) cX1_schedule "IntervalTree" (d + 1)) (hr : (mH M).sig.returnType = none) (hnm : (mH M).name = yX1_schedule.name) (hxt : ∀ x ∈ (mC M).exceptionTable.toList, False) (hnd : (mS M).methodNamed? yX1_schedule = some (mM M)) {k21 : Int32 → Wd → Option (Wd × Unit)} (hk21 : ∀ (x1 : Int32) (w : Wd) (fx1 : Bool), Jf (G, true, M, 3, w0) (rrV G pU) (k21 x1 w) w 21 [some (aR 1 (some 8)), some (aB fx1 x1), none] []) : ∀ (n : Nat), ∀ (x1 : Int32) (x2 : Int32) (w : Wd) (fx1 : Bool) (fx2 : Bool), Jf (G, true, M, 3, w0) (rrV G pU) (b_X1_schedule_29 d n k21 x1 x2 w) w 29 [some (aR 1 (some 8)), some (aB fx1 x1), some (aB fx2 x2)] [] := by
  intro n
  induction n with
  | zero => intros; exact j_none
  | succ n ih =>
    intro x1 x2 w fx1 fx2
    refine j_iload_n K dX1_schedule_29 rfl ?_
    refine j_aload_n K dX1_schedule_30 rfl ?_
    refine j_getI (k := 13) K dX1_schedule_31 rfl rfl rfl q194 rfl rfl rfl ?_
    refine j_icmp_ge 64 K dX1_schedule_34 (by decide) ?_ ?_
    · exact sb_X1_schedule_64 hG hl K hr hnm hxt hnd hk21 _ _ _ _ _
    · refine j_aload_n K dX1_schedule_37 rfl ?_
      refine j_getA (k := 12) 4 K dX1_schedule_38 rfl rfl rfl q193 rfl rfl (by decide) rfl rfl rfl ?_
      refine j_iload_n K dX1_schedule_41 rfl ?_
      refine j_ib (fun hi3 => ?_)
      refine j_aal K dX1_schedule_42 rfl (fun _ => rfl) (by decide) rfl rfl (fxLen 4 rfl rfl) hi3 ?_
      refine j_nn (fun a4 ha4 => ?_)
      refine j_getI (k := 1) K dX1_schedule_43 rfl rfl rfl q543 rfl rfl ha4 ?_
      refine j_aload_n K dX1_schedule_46 rfl ?_
      refine j_getA (k := 12) 4 K dX1_schedule_47 rfl rfl rfl q193 rfl rfl (by decide) rfl rfl rfl ?_
      refine j_iload_n K dX1_schedule_50 rfl ?_
      refine j_ib (fun hi5 => ?_)
      refine j_aal K dX1_schedule_51 rfl (fun _ => rfl) (by decide) rfl rfl (fxLen 4 rfl rfl) hi5 ?_
      refine j_nn (fun a6 ha6 => ?_)
      refine j_getI (k := 2) K dX1_schedule_52 rfl rfl rfl q545 rfl rfl ha6 ?_
      refine j_icmp_gt 64 K dX1_schedule_55 (by decide) ?_ ?_
      · exact sb_X1_schedule_64 hG hl K hr hnm hxt hnd hk21 _ _ _ _ _
      · refine j_iinc (y := 1) K dX1_schedule_58 rfl rfl rfl rfl ?_
        refine j_goto 29 K dX1_schedule_61 (by decide) ?_
        exact ih _ _ _ _ _
theorem sb_X1_schedule_21 {G : Gx} (hG : GW G) {M : Mx} (hl : (mL M).stackTraces = false) {w0 : Wd} {d : Nat} (K : Cx (G, true, M, 3, w0) cX1_schedule "IntervalTree" (d + 1)) (hr : (mH M).sig.returnType = none) (hnm : (mH M).name = yX1_schedule.name) (hxt : ∀ x ∈ (mC M).exceptionTable.toList, False) (hnd : (mS M).methodNamed? yX1_schedule = some (mM M)) : ∀ (n : Nat), ∀ (x1 : Int32) (w : Wd) (fx1 : Bool), Jf (G, true, M, 3, w0) (rrV G pU) (b_X1_schedule_21 d n x1 w) w 21 [some (aR 1 (some 8)), some (aB fx1 x1), none] [] := by
  intro n
  induction n with
  | zero => intros; exact j_none
  | succ n ih =>
    intro x1 w fx1
    refine j_iload_n K dX1_schedule_21 rfl ?_
    refine j_if_lt 110 K dX1_schedule_22 (by decide) ?_ ?_
    · exact j_vret K hr dX1_schedule_110
    · refine j_iload_n K dX1_schedule_25 rfl ?_
      refine j_iconstZ K dX1_schedule_26 rfl (Or.inr rfl) ?_
      refine j_iadd K dX1_schedule_27 ?_
      refine j_istore_n K dX1_schedule_28 rfl rfl ?_
      exact sb_X1_schedule_29 hG hl K hr hnm hxt hnd ih FU _ _ _ _ _
theorem sim_X1_schedule {G : Gx} (hG : GW G) {l : Launch} (hl : l.stackTraces = false) (d : Nat) (w : Wd) : Mt G true l yX1_schedule (ws_ yX1_schedule cX1_schedule 3 (none)) d (rrV G pU) [aR 1 (some 8)] w (f_X1_schedule d w) := by
  refine Mt.of (own := "IntervalTree") hG hl (by decide +kernel) rfl rfl ?_
  intro M hM hr hnm hxt hnd K
  subst hM
  cases d with
  | zero => exact j_none
  | succ d =>
    refine j_aload_n K dX1_schedule_0 rfl ?_
    refine j_callV _ K (sim_X1_collectLive hG hl d w) dX1_schedule_1 rfl rfl q297 q299 qs3 q93 q300 pm_X1_collectLive rfl rfl rfl rfl rfl (fun r1 _ => ?_)
    refine j_aload_n K dX1_schedule_4 rfl ?_
    refine j_getA (k := 18) 5 K dX1_schedule_5 rfl rfl rfl q199 rfl rfl (by decide) rfl rfl rfl ?_
    refine j_aload_n K dX1_schedule_8 rfl ?_
    refine j_getI (k := 13) K dX1_schedule_9 rfl rfl rfl q194 rfl rfl rfl ?_
    refine j_iconstZ K dX1_schedule_12 rfl (Or.inl rfl) ?_
    refine j_ib (fun hi2 => ?_)
    refine j_ias K dX1_schedule_13 rfl (fxLen2 5 rfl rfl) hi2 ?_
    refine j_aload_n K dX1_schedule_14 rfl ?_
    refine j_getI (k := 13) K dX1_schedule_15 rfl rfl rfl q194 rfl rfl rfl ?_
    refine j_iconstZ K dX1_schedule_18 rfl (Or.inr rfl) ?_
    refine j_isub K dX1_schedule_19 ?_
    refine j_istore_n K dX1_schedule_20 rfl rfl ?_
    exact j_wk (sb_X1_schedule_21 hG hl K hr hnm hxt hnd FU _ _ _) ⟨rfl, rfl, trivial⟩

theorem pm_X1_scheduleWeight : yX1_scheduleWeight.cls = RX1 ∧ yX1_scheduleWeight.cls ≠ "java/lang/invoke/MethodHandle" ∧ yX1_scheduleWeight.cls ≠ "java/lang/invoke/VarHandle" ∧ (parseMethodDescriptor yX1_scheduleWeight.desc).map (fun d => d.parameters.length) = some 0 := by decide +kernel
def f_X1_scheduleWeight (d : Nat) (w : Wd) : Option (Wd × Int32) :=
  match d with
  | 0 => none
  | d + 1 =>
    (f_X1_schedule d w).bind fun r1 =>
    if ib 0 101 = true then
      some (r1.1, (gI r1.1 20 (Int32.toNatClampNeg 0)))
    else none
theorem sim_X1_scheduleWeight {G : Gx} (hG : GW G) {l : Launch} (hl : l.stackTraces = false) (d : Nat) (w : Wd) : Mt G true l yX1_scheduleWeight (ws_ yX1_scheduleWeight cX1_scheduleWeight 1 (some .int)) d (rrV G pI) [aR 1 (some 8)] w (f_X1_scheduleWeight d w) := by
  refine Mt.of (own := "IntervalTree") hG hl (by decide +kernel) rfl rfl ?_
  intro M hM hr hnm hxt hnd K
  subst hM
  cases d with
  | zero => exact j_none
  | succ d =>
    refine j_aload_n K dX1_scheduleWeight_0 rfl ?_
    refine j_callV _ K (sim_X1_schedule hG hl d w) dX1_scheduleWeight_1 rfl rfl q421 q423 qs11 q93 q424 pm_X1_schedule rfl rfl rfl rfl rfl (fun r1 _ => ?_)
    refine j_aload_n K dX1_scheduleWeight_4 rfl ?_
    refine j_getA (k := 18) 5 K dX1_scheduleWeight_5 rfl rfl rfl q199 rfl rfl (by decide) rfl rfl rfl ?_
    refine j_iconstZ K dX1_scheduleWeight_8 rfl (Or.inl rfl) ?_
    refine j_ib (fun hi2 => ?_)
    refine j_ial K dX1_scheduleWeight_9 rfl (fxLen 5 rfl rfl) hi2 ?_
    exact j_iret K hr dX1_scheduleWeight_10

theorem pm_X1_save : yX1_save.cls = RX1 ∧ yX1_save.cls ≠ "java/lang/invoke/MethodHandle" ∧ yX1_save.cls ≠ "java/lang/invoke/VarHandle" ∧ (parseMethodDescriptor yX1_save.desc).map (fun d => d.parameters.length) = some 0 := by decide +kernel
def f_X1_save (d : Nat) (w : Wd) : Option (Wd × Int32) :=
  match d with
  | 0 => none
  | d + 1 =>
    if 49 ≤ d then
      if gK w 6 = 29 then
        (f_X1_visitAll d (gR w 8 4) (some 6) w).bind fun r3 =>
        if 49 ≤ d then
          (nwB r3.1 30 1 1).bind fun w5 =>
          (f_X1_visitAll d (gR r3.1 8 4) (some (gN r3.1)) (setAs w5 (gN r3.1) 0 [aR 1 (some 8)])).bind fun r6 =>
          (f_X1_idOf d (gR r6.1 8 4) r6.1).bind fun r7 =>
          (f_X1_size d (sI (sI (sI (sI (sI r7.1 8 29 r7.2) 8 30 (gI (sI r7.1 8 29 r7.2) 8 5)) 8 31 (gI (sI (sI r7.1 8 29 r7.2) 8 30 (gI (sI r7.1 8 29 r7.2) 8 5)) 8 8)) 8 32 (gI (sI (sI (sI r7.1 8 29 r7.2) 8 30 (gI (sI r7.1 8 29 r7.2) 8 5)) 8 31 (gI (sI (sI r7.1 8 29 r7.2) 8 30 (gI (sI r7.1 8 29 r7.2) 8 5)) 8 8)) 8 9)) 8 33 (gI (sI (sI (sI (sI r7.1 8 29 r7.2) 8 30 (gI (sI r7.1 8 29 r7.2) 8 5)) 8 31 (gI (sI (sI r7.1 8 29 r7.2) 8 30 (gI (sI r7.1 8 29 r7.2) 8 5)) 8 8)) 8 32 (gI (sI (sI (sI r7.1 8 29 r7.2) 8 30 (gI (sI r7.1 8 29 r7.2) 8 5)) 8 31 (gI (sI (sI r7.1 8 29 r7.2) 8 30 (gI (sI r7.1 8 29 r7.2) 8 5)) 8 8)) 8 9)) 8 10))).bind fun r8 =>
          some (r8.1, r8.2)
        else none
      else none
    else none
theorem sim_X1_save {G : Gx} (hG : GW G) {l : Launch} (hl : l.stackTraces = false) (d : Nat) (w : Wd) : Mt G true l yX1_save (ws_ yX1_save cX1_save 1 (some .int)) d (rrV G pI) [aR 1 (some 8)] w (f_X1_save d w) := by
  refine Mt.of (own := "IntervalTree") hG hl (by decide +kernel) rfl rfl ?_
  intro M hM hr hnm hxt hnd K
  subst hM
  cases d with
  | zero => exact j_none
  | succ d =>
    refine j_aload_n K dX1_save_0 rfl ?_
    refine j_aload_n K dX1_save_1 rfl ?_
    refine j_getR (k := 4) K dX1_save_2 rfl rfl rfl q185 rfl rfl (by decide) rfl ?_
    refine j_if (fun hd1 => ?_)
    refine j_if (fun hk2 => ?_)
    refine j_indyC (kd := 29) (t := 52) K hnd (by decide) (by decide) rfl (by decide) dX1_save_5 rfl hk2 hd1 rfl ?_
    refine j_callV _ K (sim_X1_visitAll hG hl d (gR w 8 4) (some 6) w) dX1_save_10 rfl rfl q308 q310 qs6 q93 q311 pm_X1_visitAll rfl rfl rfl rfl rfl (fun r3 _ => ?_)
    refine j_aload_n K dX1_save_13 rfl ?_
    refine j_aload_n K dX1_save_14 rfl ?_
    refine j_getR (k := 4) K dX1_save_15 rfl rfl rfl q185 rfl rfl (by decide) rfl ?_
    refine j_aload_n K dX1_save_18 rfl ?_
    refine j_if (fun hd4 => ?_)
    refine j_indyM (kd := 30) (t := 52) [aR 1 (some 8)] K hnd (by decide) (by decide) rfl rfl rfl dX1_save_19 rfl rfl (by decide) rfl hd4 rfl rfl (fun w5 => ?_)
    refine j_callV _ K (sim_X1_visitAll hG hl d (gR r3.1 8 4) (some (gN r3.1)) (setAs w5 (gN r3.1) 0 [aR 1 (some 8)])) dX1_save_24 rfl rfl q308 q310 qs6 q93 q311 pm_X1_visitAll rfl rfl rfl rfl rfl (fun r6 _ => ?_)
    refine j_aload_n K dX1_save_27 rfl ?_
    refine j_aload_n K dX1_save_28 rfl ?_
    refine j_getR (k := 4) K dX1_save_29 rfl rfl rfl q185 rfl rfl (by decide) rfl ?_
    refine j_callS _ K (sim_X1_idOf hG hl d (gR r6.1 8 4) r6.1) dX1_save_32 q398 q399 q93 q400 pm_X1_idOf.2 rfl rfl rfl rfl (fun r7 _ => ?_)
    refine j_putI (k := 29) K dX1_save_35 rfl rfl q212 rfl (Or.inl rfl) rfl rfl rfl rfl ?_
    refine j_aload_n K dX1_save_38 rfl ?_
    refine j_aload_n K dX1_save_39 rfl ?_
    refine j_getI (k := 5) K dX1_save_40 rfl rfl rfl q186 rfl rfl rfl ?_
    refine j_putI (k := 30) K dX1_save_43 rfl rfl q213 rfl (Or.inl rfl) rfl rfl rfl rfl ?_
    refine j_aload_n K dX1_save_46 rfl ?_
    refine j_aload_n K dX1_save_47 rfl ?_
    refine j_getI (k := 8) K dX1_save_48 rfl rfl rfl q189 rfl rfl rfl ?_
    refine j_putI (k := 31) K dX1_save_51 rfl rfl q214 rfl (Or.inl rfl) rfl rfl rfl rfl ?_
    refine j_aload_n K dX1_save_54 rfl ?_
    refine j_aload_n K dX1_save_55 rfl ?_
    refine j_getI (k := 9) K dX1_save_56 rfl rfl rfl q190 rfl rfl rfl ?_
    refine j_putI (k := 32) K dX1_save_59 rfl rfl q215 rfl (Or.inl rfl) rfl rfl rfl rfl ?_
    refine j_aload_n K dX1_save_62 rfl ?_
    refine j_aload_n K dX1_save_63 rfl ?_
    refine j_getI (k := 10) K dX1_save_64 rfl rfl rfl q191 rfl rfl rfl ?_
    refine j_putI (k := 33) K dX1_save_67 rfl rfl q216 rfl (Or.inl rfl) rfl rfl rfl rfl ?_
    refine j_aload_n K dX1_save_70 rfl ?_
    refine j_callV _ K (sim_X1_size hG hl d (sI (sI (sI (sI (sI r7.1 8 29 r7.2) 8 30 (gI (sI r7.1 8 29 r7.2) 8 5)) 8 31 (gI (sI (sI r7.1 8 29 r7.2) 8 30 (gI (sI r7.1 8 29 r7.2) 8 5)) 8 8)) 8 32 (gI (sI (sI (sI r7.1 8 29 r7.2) 8 30 (gI (sI r7.1 8 29 r7.2) 8 5)) 8 31 (gI (sI (sI r7.1 8 29 r7.2) 8 30 (gI (sI r7.1 8 29 r7.2) 8 5)) 8 8)) 8 9)) 8 33 (gI (sI (sI (sI (sI r7.1 8 29 r7.2) 8 30 (gI (sI r7.1 8 29 r7.2) 8 5)) 8 31 (gI (sI (sI r7.1 8 29 r7.2) 8 30 (gI (sI r7.1 8 29 r7.2) 8 5)) 8 8)) 8 32 (gI (sI (sI (sI r7.1 8 29 r7.2) 8 30 (gI (sI r7.1 8 29 r7.2) 8 5)) 8 31 (gI (sI (sI r7.1 8 29 r7.2) 8 30 (gI (sI r7.1 8 29 r7.2) 8 5)) 8 8)) 8 9)) 8 10))) dX1_save_71 rfl rfl q434 q344 q345 q93 q346 pm_X1_size rfl rfl rfl rfl rfl (fun r8 _ => ?_)
    exact j_iret K hr dX1_save_74

theorem pm_X1_isBetween : yX1_isBetween.cls = RX1 ∧ yX1_isBetween.cls ≠ "java/lang/invoke/MethodHandle" ∧ yX1_isBetween.cls ≠ "java/lang/invoke/VarHandle" ∧ (parseMethodDescriptor yX1_isBetween.desc).map (fun d => d.parameters.length) = some 3 := by decide +kernel
def f_X1_isBetween (d : Nat) (p1 : Int32) (p2 : Int32) (p3 : Int32) (w : Wd) : Option (Wd × Int32) :=
  match d with
  | 0 => none
  | d + 1 =>
    if p1 < p2 then
      some (w, 0)
    else
      if p3 < p1 then
        some (w, 0)
      else
        some (w, 1)
theorem sim_X1_isBetween {G : Gx} (hG : GW G) {l : Launch} (hl : l.stackTraces = false) (d : Nat) (p1 : Int32) (p2 : Int32) (p3 : Int32) (w : Wd) (fp1 : Bool) (fp2 : Bool) (fp3 : Bool) : Mt G true l yX1_isBetween (ws_ yX1_isBetween cX1_isBetween 3 (some .boolean)) d (rrV G pZ) [aB fp1 p1, aB fp2 p2, aB fp3 p3] w (f_X1_isBetween d p1 p2 p3 w) := by
  refine Mt.of (own := "IntervalTree") hG hl (by decide +kernel) rfl rfl ?_
  intro M hM hr hnm hxt hnd K
  subst hM
  cases d with
  | zero => exact j_none
  | succ d =>
    refine j_iload_n K dX1_isBetween_0 rfl ?_
    refine j_iload_n K dX1_isBetween_1 rfl ?_
    refine j_icmp_lt 14 K dX1_isBetween_2 (by decide) ?_ ?_
    · refine j_iconstZ K dX1_isBetween_14 rfl (Or.inl rfl) ?_
      exact j_zret K hr dX1_isBetween_15
    · refine j_iload_n K dX1_isBetween_5 rfl ?_
      refine j_iload_n K dX1_isBetween_6 rfl ?_
      refine j_icmp_gt 14 K dX1_isBetween_7 (by decide) ?_ ?_
      · refine j_iconstZ K dX1_isBetween_14 rfl (Or.inl rfl) ?_
        exact j_zret K hr dX1_isBetween_15
      · refine j_iconstZ K dX1_isBetween_10 rfl (Or.inr rfl) ?_
        refine j_goto 15 K dX1_isBetween_11 (by decide) ?_
        exact j_zret K hr dX1_isBetween_15

theorem pm_X1_check : yX1_check.cls = RX1 ∧ yX1_check.cls ≠ "java/lang/invoke/MethodHandle" ∧ yX1_check.cls ≠ "java/lang/invoke/VarHandle" ∧ (parseMethodDescriptor yX1_check.desc).map (fun d => d.parameters.length) = some 1 := by decide +kernel
def f_X1_check (d : Nat) (p1 : Int32) (w : Wd) : Option (Wd × (Unit ⊕ Nat)) :=
  match d with
  | 0 => none
  | d + 1 =>
    if p1 = 0 then
      if 8 ≤ d then
        if room w 6 = true then
          some (nw w 40 0 6, .inr (gN w))
        else none
      else none
    else
      some (w, .inl ())
theorem sim_X1_check {G : Gx} (hG : GW G) {l : Launch} (hl : l.stackTraces = false) (d : Nat) (p1 : Int32) (w : Wd) : Mt G true l yX1_check (ws_ yX1_check cX1_check 1 (none)) d (rrX G pU) [aZ p1] w (f_X1_check d p1 w) := by
  refine Mt.of (own := "IntervalTree") hG hl (by decide +kernel) rfl rfl ?_
  intro M hM hr hnm hxt hnd K
  subst hM
  cases d with
  | zero => exact j_none
  | succ d =>
    refine j_iload_n K dX1_check_0 rfl ?_
    refine j_if_ne 14 K dX1_check_1 (by decide) ?_ ?_
    · exact j_vretX K hr dX1_check_14
    · refine j_dp (fun h81 => ?_)
      refine j_rm (fun hr2 => ?_)
      refine j_mkS (kd := 40) K rfl (by decide +kernel) (by decide +kernel) rfl q450 q99 q494 at_X1_40_1 at_X1_40_2 at_X1_40_3 rfl dX1_check_4 dX1_check_7 dX1_check_8 dX1_check_10 (Nat.le_succ_of_le h81) hr2 rfl ?_
      refine j_athrow K dX1_check_13 ?_
      exact j_outN K hxt rfl

theorem pm_X4_init : yX4_init.cls = RX4 ∧ yX4_init.cls ≠ "java/lang/invoke/MethodHandle" ∧ yX4_init.cls ≠ "java/lang/invoke/VarHandle" ∧ (parseMethodDescriptor yX4_init.desc).map (fun d => d.parameters.length) = some 4 := by decide +kernel
def f_X4_init (d : Nat) (a0 : Nat) (p1 : Int32) (p2 : Int32) (p3 : Int32) (p4 : Int32) (w : Wd) : Option (Wd × Unit) :=
  match d with
  | 0 => none
  | d + 1 =>
    some (sI (sI (sI (sI w a0 0 p1) a0 1 p2) a0 2 p3) a0 3 p4, ())
theorem sim_X4_init {G : Gx} (hG : GW G) {l : Launch} (hl : l.stackTraces = false) (d : Nat) (a0 : Nat) (p1 : Int32) (p2 : Int32) (p3 : Int32) (p4 : Int32) (w : Wd) (fp1 : Bool) (fp2 : Bool) (fp3 : Bool) (fp4 : Bool) : Mt G true l yX4_init (ws_ yX4_init cX4_init 5 (none)) d (rrV G pU) [aR 4 (some a0), aB fp1 p1, aB fp2 p2, aB fp3 p3, aB fp4 p4] w (f_X4_init d a0 p1 p2 p3 p4 w) := by
  refine Mt.of (own := "IntervalTree$Node") hG hl (by decide +kernel) rfl rfl ?_
  intro M hM hr hnm hxt hnd K
  subst hM
  cases d with
  | zero => exact j_none
  | succ d =>
    refine j_aload_n K dX4_init_0 rfl ?_
    refine j_objI K dX4_init_1 q539 q122 q123 (by omega) rfl rfl ?_
    refine j_aload_n K dX4_init_4 rfl ?_
    refine j_iload_n K dX4_init_5 rfl ?_
    refine j_putI (k := 0) K dX4_init_6 rfl rfl q540 rfl (Or.inr ⟨rfl, hnm, rfl⟩) rfl rfl rfl rfl ?_
    refine j_aload_n K dX4_init_9 rfl ?_
    refine j_iload_n K dX4_init_10 rfl ?_
    refine j_putI (k := 1) K dX4_init_11 rfl rfl q542 rfl (Or.inr ⟨rfl, hnm, rfl⟩) rfl rfl rfl rfl ?_
    refine j_aload_n K dX4_init_14 rfl ?_
    refine j_iload_n K dX4_init_15 rfl ?_
    refine j_putI (k := 2) K dX4_init_16 rfl rfl q544 rfl (Or.inr ⟨rfl, hnm, rfl⟩) rfl rfl rfl rfl ?_
    refine j_aload_n K dX4_init_19 rfl ?_
    refine j_iload K dX4_init_20 rfl ?_
    refine j_putI (k := 3) K dX4_init_22 rfl rfl q546 rfl (Or.inl rfl) rfl rfl rfl rfl ?_
    exact j_vret K hr dX4_init_25

theorem pm_X4_isBefore : yX4_isBefore.cls = RX4 ∧ yX4_isBefore.cls ≠ "java/lang/invoke/MethodHandle" ∧ yX4_isBefore.cls ≠ "java/lang/invoke/VarHandle" ∧ (parseMethodDescriptor yX4_isBefore.desc).map (fun d => d.parameters.length) = some 1 := by decide +kernel
def f_X4_isBefore (d : Nat) (a0 : Nat) (p1 : Option Nat) (w : Wd) : Option (Wd × Int32) :=
  match d with
  | 0 => none
  | d + 1 =>
    (p1).bind fun a1 =>
    (f_X4_isBeforeKey d a0 (gI w a1 1) (gI w a1 2) (gI w a1 0) w).bind fun r2 =>
    some (r2.1, r2.2)
theorem sim_X4_isBefore {G : Gx} (hG : GW G) {l : Launch} (hl : l.stackTraces = false) (d : Nat) (a0 : Nat) (p1 : Option Nat) (w : Wd) : Mt G true l yX4_isBefore (ws_ yX4_isBefore cX4_isBefore 2 (some .boolean)) d (rrV G pZ) [aR 4 (some a0), aR 4 p1] w (f_X4_isBefore d a0 p1 w) := by
  refine Mt.of (own := "IntervalTree$Node") hG hl (by decide +kernel) rfl rfl ?_
  intro M hM hr hnm hxt hnd K
  subst hM
  cases d with
  | zero => exact j_none
  | succ d =>
    refine j_aload_n K dX4_isBefore_0 rfl ?_
    refine j_aload_n K dX4_isBefore_1 rfl ?_
    refine j_nn (fun a1 ha1 => ?_)
    refine j_getI (k := 1) K dX4_isBefore_2 rfl rfl rfl q542 rfl rfl ha1 ?_
    refine j_aload_n K dX4_isBefore_5 rfl ?_
    refine j_getI (k := 2) K dX4_isBefore_6 rfl rfl rfl q544 rfl rfl ha1 ?_
    refine j_aload_n K dX4_isBefore_9 rfl ?_
    refine j_getI (k := 0) K dX4_isBefore_10 rfl rfl rfl q540 rfl rfl ha1 ?_
    refine j_callV _ K (sim_X4_isBeforeKey hG hl d a0 (gI w a1 1) (gI w a1 2) (gI w a1 0) w false false false) dX4_isBefore_13 rfl rfl q607 q410 q411 q102 q412 pm_X4_isBeforeKey rfl rfl rfl rfl rfl (fun r2 _ => ?_)
    exact j_zret K hr dX4_isBefore_16

theorem pm_X1_pullPath : yX1_pullPath.cls = RX1 ∧ yX1_pullPath.cls ≠ "java/lang/invoke/MethodHandle" ∧ yX1_pullPath.cls ≠ "java/lang/invoke/VarHandle" ∧ (parseMethodDescriptor yX1_pullPath.desc).map (fun d => d.parameters.length) = some 1 := by decide +kernel
def b_X1_pullPath_2 (d : Nat) : Nat → Option Nat → Wd → Option (Wd × Unit)
  | 0, _, _ => none
  | n + 1, x2, w =>
    (x2).elim
      (some (w, ()))
      fun a1 =>
      (f_X4_pull d a1 w).bind fun r2 =>
      b_X1_pullPath_2 d n (gR r2.1 a1 7) r2.1
def f_X1_pullPath (d : Nat) (p1 : Option Nat) (w : Wd) : Option (Wd × Unit) :=
  match d with
  | 0 => none
  | d + 1 =>
    b_X1_pullPath_2 d FU p1 w
theorem sb_X1_pullPath_2 {G : Gx} (hG : GW G) {M : Mx} (hl : (mL M).stackTraces = false) {w0 : Wd} {d : Nat} (K : Cx (G, true, M, 3, w0) cX1_pullPath "IntervalTree" (d + 1)) (hr : (mH M).sig.returnType = none) (hnm : (mH M).name = yX1_pullPath.name) (hxt : ∀ x ∈ (mC M).exceptionTable.toList, False) (hnd : (mS M).methodNamed? yX1_pullPath = some (mM M)) : ∀ (n : Nat), ∀ (x2 : Option Nat) (w : Wd), Jf (G, true, M, 3, w0) (rrV G pU) (b_X1_pullPath_2 d n x2 w) w 2 [none, none, some (aR 4 x2)] [] := by
  intro n
  induction n with
  | zero => intros; exact j_none
  | succ n ih =>
    intro x2 w
    refine j_aload_n K dX1_pullPath_2 rfl ?_
    refine j_ifnull 18 K dX1_pullPath_3 (by decide) (fun _ => ?_) (fun a1 ha1 => ?_)
    · exact j_vret K hr dX1_pullPath_18
    · refine j_aload_n K dX1_pullPath_6 rfl ?_
      refine j_callV _ K (sim_X4_pull hG hl d a1 w) dX1_pullPath_7 rfl rfl q331 q332 q333 q102 q334 pm_X4_pull rfl rfl rfl ha1 rfl (fun r2 _ => ?_)
      refine j_aload_n K dX1_pullPath_10 rfl ?_
      refine j_getR (k := 7) K dX1_pullPath_11 rfl rfl rfl q553 rfl rfl (by decide) ha1 ?_
      refine j_astore_n K dX1_pullPath_14 rfl rfl ?_
      refine j_goto 2 K dX1_pullPath_15 (by decide) ?_
      exact j_wk (ih _ _) ⟨rfl, trivial⟩
theorem sim_X1_pullPath {G : Gx} (hG : GW G) {l : Launch} (hl : l.stackTraces = false) (d : Nat) (p1 : Option Nat) (w : Wd) : Mt G true l yX1_pullPath (ws_ yX1_pullPath cX1_pullPath 3 (none)) d (rrV G pU) [aR 1 (some 8), aR 4 p1] w (f_X1_pullPath d p1 w) := by
  refine Mt.of (own := "IntervalTree") hG hl (by decide +kernel) rfl rfl ?_
  intro M hM hr hnm hxt hnd K
  subst hM
  cases d with
  | zero => exact j_none
  | succ d =>
    refine j_aload_n K dX1_pullPath_0 rfl ?_
    refine j_astore_n K dX1_pullPath_1 rfl rfl ?_
    exact j_wk (sb_X1_pullPath_2 hG hl K hr hnm hxt hnd FU _ _) ⟨rfl, trivial⟩

theorem pm_X1_isRedNode : yX1_isRedNode.cls = RX1 ∧ yX1_isRedNode.cls ≠ "java/lang/invoke/MethodHandle" ∧ yX1_isRedNode.cls ≠ "java/lang/invoke/VarHandle" ∧ (parseMethodDescriptor yX1_isRedNode.desc).map (fun d => d.parameters.length) = some 1 := by decide +kernel
def f_X1_isRedNode (d : Nat) (p1 : Option Nat) (w : Wd) : Option (Wd × Int32) :=
  match d with
  | 0 => none
  | d + 1 =>
    (p1).elim
      (some (w, 0))
      fun a1 =>
      if (gI w a1 5) = 0 then
        some (w, 0)
      else
        some (w, 1)
theorem sim_X1_isRedNode {G : Gx} (hG : GW G) {l : Launch} (hl : l.stackTraces = false) (d : Nat) (p1 : Option Nat) (w : Wd) : Mt G true l yX1_isRedNode (ws_ yX1_isRedNode cX1_isRedNode 1 (some .boolean)) d (rrV G pZ) [aR 4 p1] w (f_X1_isRedNode d p1 w) := by
  refine Mt.of (own := "IntervalTree") hG hl (by decide +kernel) rfl rfl ?_
  intro M hM hr hnm hxt hnd K
  subst hM
  cases d with
  | zero => exact j_none
  | succ d =>
    refine j_aload_n K dX1_isRedNode_0 rfl ?_
    refine j_ifnull 15 K dX1_isRedNode_1 (by decide) (fun _ => ?_) (fun a1 ha1 => ?_)
    · refine j_iconstZ K dX1_isRedNode_15 rfl (Or.inl rfl) ?_
      exact j_zret K hr dX1_isRedNode_16
    · refine j_aload_n K dX1_isRedNode_4 rfl ?_
      refine j_getZ (k := 5) K dX1_isRedNode_5 rfl rfl rfl q550 rfl rfl rfl ha1 ?_
      refine j_if_eq 15 K dX1_isRedNode_8 (by decide) ?_ ?_
      · refine j_iconstZ K dX1_isRedNode_15 rfl (Or.inl rfl) ?_
        exact j_zret K hr dX1_isRedNode_16
      · refine j_iconstZ K dX1_isRedNode_11 rfl (Or.inr rfl) ?_
        refine j_goto 16 K dX1_isRedNode_12 (by decide) ?_
        exact j_zret K hr dX1_isRedNode_16

theorem pm_X1_replaceChild : yX1_replaceChild.cls = RX1 ∧ yX1_replaceChild.cls ≠ "java/lang/invoke/MethodHandle" ∧ yX1_replaceChild.cls ≠ "java/lang/invoke/VarHandle" ∧ (parseMethodDescriptor yX1_replaceChild.desc).map (fun d => d.parameters.length) = some 3 := by decide +kernel
def b_X1_replaceChild_33 (d : Nat) (x1 : Option Nat) (x3 : Option Nat) (w : Wd) : Option (Wd × Unit) :=
  (x3).elim
    (some (w, ()))
    fun a1 =>
    some (sR w a1 7 x1, ())
def f_X1_replaceChild (d : Nat) (p1 : Option Nat) (p2 : Option Nat) (p3 : Option Nat) (w : Wd) : Option (Wd × Unit) :=
  match d with
  | 0 => none
  | d + 1 =>
    (p1).elim
      (b_X1_replaceChild_33 d p1 p3 (sR w 8 4 p3))
      fun a2 =>
      if (gR w a2 8) = p2 then
        b_X1_replaceChild_33 d p1 p3 (sR w a2 8 p3)
      else
        b_X1_replaceChild_33 d p1 p3 (sR w a2 9 p3)
theorem sb_X1_replaceChild_33 {G : Gx} (hG : GW G) {M : Mx} (hl : (mL M).stackTraces = false) {w0 : Wd} {d : Nat} (K : Cx (G, true, M, 4, w0) cX1_replaceChild "IntervalTree" (d + 1)) (hr : (mH M).sig.returnType = none) (hnm : (mH M).name = yX1_replaceChild.name) (hxt : ∀ x ∈ (mC M).exceptionTable.toList, False) (hnd : (mS M).methodNamed? yX1_replaceChild = some (mM M)) : ∀ (x1 : Option Nat) (x3 : Option Nat) (w : Wd), Jf (G, true, M, 4, w0) (rrV G pU) (b_X1_replaceChild_33 d x1 x3 w) w 33 [none, some (aR 4 x1), none, some (aR 4 x3)] [] := by
  intro x1 x3 w
  refine j_aload_n K dX1_replaceChild_33 rfl ?_
  refine j_ifnull 42 K dX1_replaceChild_34 (by decide) (fun _ => ?_) (fun a1 ha1 => ?_)
  · exact j_vret K hr dX1_replaceChild_42
  · refine j_aload_n K dX1_replaceChild_37 rfl ?_
    refine j_aload_n K dX1_replaceChild_38 rfl ?_
    refine j_putR (k := 7) K dX1_replaceChild_39 rfl rfl q553 rfl (Or.inl rfl) rfl (Or.inl ⟨_, rfl⟩) rfl (by decide) rfl (fun _ => by decide +kernel) ha1 ?_
    exact j_vret K hr dX1_replaceChild_42
theorem sim_X1_replaceChild {G : Gx} (hG : GW G) {l : Launch} (hl : l.stackTraces = false) (d : Nat) (p1 : Option Nat) (p2 : Option Nat) (p3 : Option Nat) (w : Wd) : Mt G true l yX1_replaceChild (ws_ yX1_replaceChild cX1_replaceChild 4 (none)) d (rrV G pU) [aR 1 (some 8), aR 4 p1, aR 4 p2, aR 4 p3] w (f_X1_replaceChild d p1 p2 p3 w) := by
  refine Mt.of (own := "IntervalTree") hG hl (by decide +kernel) rfl rfl ?_
  intro M hM hr hnm hxt hnd K
  subst hM
  cases d with
  | zero => exact j_none
  | succ d =>
    refine j_aload_n K dX1_replaceChild_0 rfl ?_
    refine j_ifnonnull 12 K dX1_replaceChild_1 (by decide) (fun a2 ha2 => ?_) (fun _ => ?_)
    · refine j_aload_n K dX1_replaceChild_12 rfl ?_
      refine j_getR (k := 8) K dX1_replaceChild_13 rfl rfl rfl q555 rfl rfl (by decide) ha2 ?_
      refine j_aload_n K dX1_replaceChild_16 rfl ?_
      refine j_acmp_ne 28 K dX1_replaceChild_17 (by decide) rfl ?_ ?_
      · refine j_aload_n K dX1_replaceChild_28 rfl ?_
        refine j_aload_n K dX1_replaceChild_29 rfl ?_
        refine j_putR (k := 9) K dX1_replaceChild_30 rfl rfl q557 rfl (Or.inl rfl) rfl (Or.inl ⟨_, rfl⟩) rfl (by decide) rfl (fun _ => by decide +kernel) ha2 ?_
        exact j_wk (sb_X1_replaceChild_33 hG hl K hr hnm hxt hnd _ _ _) ⟨rfl, rfl, trivial⟩
      · refine j_aload_n K dX1_replaceChild_20 rfl ?_
        refine j_aload_n K dX1_replaceChild_21 rfl ?_
        refine j_putR (k := 8) K dX1_replaceChild_22 rfl rfl q555 rfl (Or.inl rfl) rfl (Or.inl ⟨_, rfl⟩) rfl (by decide) rfl (fun _ => by decide +kernel) ha2 ?_
        refine j_goto 33 K dX1_replaceChild_25 (by decide) ?_
        exact j_wk (sb_X1_replaceChild_33 hG hl K hr hnm hxt hnd _ _ _) ⟨rfl, rfl, trivial⟩
    · refine j_aload_n K dX1_replaceChild_4 rfl ?_
      refine j_aload_n K dX1_replaceChild_5 rfl ?_
      refine j_putR (k := 4) K dX1_replaceChild_6 rfl rfl q185 rfl (Or.inl rfl) rfl (Or.inl ⟨_, rfl⟩) rfl (by decide) rfl (fun _ => by decide +kernel) rfl ?_
      refine j_goto 33 K dX1_replaceChild_9 (by decide) ?_
      exact j_wk (sb_X1_replaceChild_33 hG hl K hr hnm hxt hnd _ _ _) ⟨rfl, rfl, trivial⟩

theorem pm_X1_rotateUp : yX1_rotateUp.cls = RX1 ∧ yX1_rotateUp.cls ≠ "java/lang/invoke/MethodHandle" ∧ yX1_rotateUp.cls ≠ "java/lang/invoke/VarHandle" ∧ (parseMethodDescriptor yX1_rotateUp.desc).map (fun d => d.parameters.length) = some 1 := by decide +kernel
def b_X1_rotateUp_82 (d : Nat) (x1 : Option Nat) (x2 : Option Nat) (w : Wd) : Option (Wd × Unit) :=
  (x2).bind fun a5 =>
  (f_X4_pull d a5 (sR w a5 7 x1)).bind fun r6 =>
  (x1).bind fun a7 =>
  (f_X4_pull d a7 r6.1).bind fun r8 =>
  some (r8.1, ())
def b_X1_rotateUp_77 (d : Nat) (x1 : Option Nat) (x2 : Option Nat) (w : Wd) : Option (Wd × Unit) :=
  (x1).bind fun a4 =>
  b_X1_rotateUp_82 d x1 x2 (sR w a4 8 x2)
def b_X1_rotateUp_46 (d : Nat) (x1 : Option Nat) (x2 : Option Nat) (w : Wd) : Option (Wd × Unit) :=
  (x1).bind fun a6 =>
  b_X1_rotateUp_82 d x1 x2 (sR w a6 9 x2)
def f_X1_rotateUp (d : Nat) (p1 : Option Nat) (w : Wd) : Option (Wd × Unit) :=
  match d with
  | 0 => none
  | d + 1 =>
    (p1).bind fun a1 =>
    (gR w a1 7).bind fun a2 =>
    (f_X1_replaceChild d (gR w a2 7) (gR w a1 7) p1 w).bind fun r3 =>
    if (gR r3.1 a2 8) = p1 then
      (gR (sR r3.1 a2 8 (gR r3.1 a1 9)) a1 9).elim
        (b_X1_rotateUp_46 d p1 (gR w a1 7) (sR r3.1 a2 8 (gR r3.1 a1 9)))
        fun a7 =>
        b_X1_rotateUp_46 d p1 (gR w a1 7) (sR (sR r3.1 a2 8 (gR r3.1 a1 9)) a7 7 (gR w a1 7))
    else
      (gR (sR r3.1 a2 9 (gR r3.1 a1 8)) a1 8).elim
        (b_X1_rotateUp_77 d p1 (gR w a1 7) (sR r3.1 a2 9 (gR r3.1 a1 8)))
        fun a5 =>
        b_X1_rotateUp_77 d p1 (gR w a1 7) (sR (sR r3.1 a2 9 (gR r3.1 a1 8)) a5 7 (gR w a1 7))
theorem sb_X1_rotateUp_82 {G : Gx} (hG : GW G) {M : Mx} (hl : (mL M).stackTraces = false) {w0 : Wd} {d : Nat} (K : Cx (G, true, M, 3, w0) cX1_rotateUp "IntervalTree" (d + 1)) (hr : (mH M).sig.returnType = none) (hnm : (mH M).name = yX1_rotateUp.name) (hxt : ∀ x ∈ (mC M).exceptionTable.toList, False) (hnd : (mS M).methodNamed? yX1_rotateUp = some (mM M)) : ∀ (x1 : Option Nat) (x2 : Option Nat) (w : Wd), Jf (G, true, M, 3, w0) (rrV G pU) (b_X1_rotateUp_82 d x1 x2 w) w 82 [none, some (aR 4 x1), some (aR 4 x2)] [] := by
  intro x1 x2 w
  refine j_aload_n K dX1_rotateUp_82 rfl ?_
  refine j_aload_n K dX1_rotateUp_83 rfl ?_
  refine j_nn (fun a5 ha5 => ?_)
  refine j_putR (k := 7) K dX1_rotateUp_84 rfl rfl q553 rfl (Or.inl rfl) rfl (Or.inl ⟨_, rfl⟩) rfl (by decide) rfl (fun _ => by decide +kernel) ha5 ?_
  refine j_aload_n K dX1_rotateUp_87 rfl ?_
  refine j_callV _ K (sim_X4_pull hG hl d a5 (sR w a5 7 x1)) dX1_rotateUp_88 rfl rfl q331 q332 q333 q102 q334 pm_X4_pull rfl rfl rfl ha5 rfl (fun r6 _ => ?_)
  refine j_aload_n K dX1_rotateUp_91 rfl ?_
  refine j_nn (fun a7 ha7 => ?_)
  refine j_callV _ K (sim_X4_pull hG hl d a7 r6.1) dX1_rotateUp_92 rfl rfl q331 q332 q333 q102 q334 pm_X4_pull rfl rfl rfl ha7 rfl (fun r8 _ => ?_)
  exact j_vret K hr dX1_rotateUp_95
theorem sb_X1_rotateUp_77 {G : Gx} (hG : GW G) {M : Mx} (hl : (mL M).stackTraces = false) {w0 : Wd} {d : Nat} (K : Cx (G, true, M, 3, w0) cX1_rotateUp "IntervalTree" (d + 1)) (hr : (mH M).sig.returnType = none) (hnm : (mH M).name = yX1_rotateUp.name) (hxt : ∀ x ∈ (mC M).exceptionTable.toList, False) (hnd : (mS M).methodNamed? yX1_rotateUp = some (mM M)) : ∀ (x1 : Option Nat) (x2 : Option Nat) (w : Wd), Jf (G, true, M, 3, w0) (rrV G pU) (b_X1_rotateUp_77 d x1 x2 w) w 77 [none, some (aR 4 x1), some (aR 4 x2)] [] := by
  intro x1 x2 w
  refine j_aload_n K dX1_rotateUp_77 rfl ?_
  refine j_aload_n K dX1_rotateUp_78 rfl ?_
  refine j_nn (fun a4 ha4 => ?_)
  refine j_putR (k := 8) K dX1_rotateUp_79 rfl rfl q555 rfl (Or.inl rfl) rfl (Or.inl ⟨_, rfl⟩) rfl (by decide) rfl (fun _ => by decide +kernel) ha4 ?_
  exact j_wk (sb_X1_rotateUp_82 hG hl K hr hnm hxt hnd _ _ _) ⟨rfl, rfl, trivial⟩
theorem sb_X1_rotateUp_46 {G : Gx} (hG : GW G) {M : Mx} (hl : (mL M).stackTraces = false) {w0 : Wd} {d : Nat} (K : Cx (G, true, M, 3, w0) cX1_rotateUp "IntervalTree" (d + 1)) (hr : (mH M).sig.returnType = none) (hnm : (mH M).name = yX1_rotateUp.name) (hxt : ∀ x ∈ (mC M).exceptionTable.toList, False) (hnd : (mS M).methodNamed? yX1_rotateUp = some (mM M)) : ∀ (x1 : Option Nat) (x2 : Option Nat) (w : Wd), Jf (G, true, M, 3, w0) (rrV G pU) (b_X1_rotateUp_46 d x1 x2 w) w 46 [none, some (aR 4 x1), some (aR 4 x2)] [] := by
  intro x1 x2 w
  refine j_aload_n K dX1_rotateUp_46 rfl ?_
  refine j_aload_n K dX1_rotateUp_47 rfl ?_
  refine j_nn (fun a6 ha6 => ?_)
  refine j_putR (k := 9) K dX1_rotateUp_48 rfl rfl q557 rfl (Or.inl rfl) rfl (Or.inl ⟨_, rfl⟩) rfl (by decide) rfl (fun _ => by decide +kernel) ha6 ?_
  refine j_goto 82 K dX1_rotateUp_51 (by decide) ?_
  exact j_wk (sb_X1_rotateUp_82 hG hl K hr hnm hxt hnd _ _ _) ⟨rfl, rfl, trivial⟩
theorem sim_X1_rotateUp {G : Gx} (hG : GW G) {l : Launch} (hl : l.stackTraces = false) (d : Nat) (p1 : Option Nat) (w : Wd) : Mt G true l yX1_rotateUp (ws_ yX1_rotateUp cX1_rotateUp 3 (none)) d (rrV G pU) [aR 1 (some 8), aR 4 p1] w (f_X1_rotateUp d p1 w) := by
  refine Mt.of (own := "IntervalTree") hG hl (by decide +kernel) rfl rfl ?_
  intro M hM hr hnm hxt hnd K
  subst hM
  cases d with
  | zero => exact j_none
  | succ d =>
    refine j_aload_n K dX1_rotateUp_0 rfl ?_
    refine j_nn (fun a1 ha1 => ?_)
    refine j_getR (k := 7) K dX1_rotateUp_1 rfl rfl rfl q553 rfl rfl (by decide) ha1 ?_
    refine j_astore_n K dX1_rotateUp_4 rfl rfl ?_
    refine j_aload_n K dX1_rotateUp_5 rfl ?_
    refine j_aload_n K dX1_rotateUp_6 rfl ?_
    refine j_nn (fun a2 ha2 => ?_)
    refine j_getR (k := 7) K dX1_rotateUp_7 rfl rfl rfl q553 rfl rfl (by decide) ha2 ?_
    refine j_aload_n K dX1_rotateUp_10 rfl ?_
    refine j_aload_n K dX1_rotateUp_11 rfl ?_
    refine j_callV _ K (sim_X1_replaceChild hG hl d (gR w a2 7) (gR w a1 7) p1 w) dX1_rotateUp_12 rfl rfl q623 q625 qs18 q93 q626 pm_X1_replaceChild rfl rfl rfl rfl rfl (fun r3 _ => ?_)
    refine j_aload_n K dX1_rotateUp_15 rfl ?_
    refine j_getR (k := 8) K dX1_rotateUp_16 rfl rfl rfl q555 rfl rfl (by decide) ha2 ?_
    refine j_aload_n K dX1_rotateUp_19 rfl ?_
    refine j_acmp_ne 54 K dX1_rotateUp_20 (by decide) rfl ?_ ?_
    · refine j_aload_n K dX1_rotateUp_54 rfl ?_
      refine j_aload_n K dX1_rotateUp_55 rfl ?_
      refine j_getR (k := 8) K dX1_rotateUp_56 rfl rfl rfl q555 rfl rfl (by decide) ha1 ?_
      refine j_putR (k := 9) K dX1_rotateUp_59 rfl rfl q557 rfl (Or.inl rfl) rfl (Or.inl ⟨_, rfl⟩) rfl (by decide) rfl (fun _ => by decide +kernel) ha2 ?_
      refine j_aload_n K dX1_rotateUp_62 rfl ?_
      refine j_getR (k := 8) K dX1_rotateUp_63 rfl rfl rfl q555 rfl rfl (by decide) ha1 ?_
      refine j_ifnull 77 K dX1_rotateUp_66 (by decide) (fun _ => ?_) (fun a5 ha5 => ?_)
      · exact j_wk (sb_X1_rotateUp_77 hG hl K hr hnm hxt hnd _ _ _) ⟨rfl, rfl, trivial⟩
      · refine j_aload_n K dX1_rotateUp_69 rfl ?_
        refine j_getR (k := 8) K dX1_rotateUp_70 rfl rfl rfl q555 rfl rfl (by decide) ha1 ?_
        refine j_aload_n K dX1_rotateUp_73 rfl ?_
        refine j_putR (k := 7) K dX1_rotateUp_74 rfl rfl q553 rfl (Or.inl rfl) rfl (Or.inl ⟨_, rfl⟩) rfl (by decide) rfl (fun _ => by decide +kernel) ha5 ?_
        exact j_wk (sb_X1_rotateUp_77 hG hl K hr hnm hxt hnd _ _ _) ⟨rfl, rfl, trivial⟩
    · refine j_aload_n K dX1_rotateUp_23 rfl ?_
      refine j_aload_n K dX1_rotateUp_24 rfl ?_
      refine j_getR (k := 9) K dX1_rotateUp_25 rfl rfl rfl q557 rfl rfl (by decide) ha1 ?_
      refine j_putR (k := 8) K dX1_rotateUp_28 rfl rfl q555 rfl (Or.inl rfl) rfl (Or.inl ⟨_, rfl⟩) rfl (by decide) rfl (fun _ => by decide +kernel) ha2 ?_
      refine j_aload_n K dX1_rotateUp_31 rfl ?_
      refine j_getR (k := 9) K dX1_rotateUp_32 rfl rfl rfl q557 rfl rfl (by decide) ha1 ?_
      refine j_ifnull 46 K dX1_rotateUp_35 (by decide) (fun _ => ?_) (fun a7 ha7 => ?_)
      · exact j_wk (sb_X1_rotateUp_46 hG hl K hr hnm hxt hnd _ _ _) ⟨rfl, rfl, trivial⟩
      · refine j_aload_n K dX1_rotateUp_38 rfl ?_
        refine j_getR (k := 9) K dX1_rotateUp_39 rfl rfl rfl q557 rfl rfl (by decide) ha1 ?_
        refine j_aload_n K dX1_rotateUp_42 rfl ?_
        refine j_putR (k := 7) K dX1_rotateUp_43 rfl rfl q553 rfl (Or.inl rfl) rfl (Or.inl ⟨_, rfl⟩) rfl (by decide) rfl (fun _ => by decide +kernel) ha7 ?_
        exact j_wk (sb_X1_rotateUp_46 hG hl K hr hnm hxt hnd _ _ _) ⟨rfl, rfl, trivial⟩

theorem pm_X1_repair : yX1_repair.cls = RX1 ∧ yX1_repair.cls ≠ "java/lang/invoke/MethodHandle" ∧ yX1_repair.cls ≠ "java/lang/invoke/VarHandle" ∧ (parseMethodDescriptor yX1_repair.desc).map (fun d => d.parameters.length) = some 1 := by decide +kernel
def b_X1_repair_134 (d : Nat) (w : Wd) : Option (Wd × Unit) :=
  (gR w 8 4).bind fun a3 =>
  some (sI w a3 5 0, ())
def b_X1_repair_115 (d : Nat) (x3 : Option Nat) (x4 : Option Nat) (w : Wd) : Option (Wd × Unit) :=
  (x3).bind fun a9 =>
  (x4).bind fun a10 =>
  (f_X1_rotateUp d x3 (sI (sI w a9 5 0) a10 5 1)).bind fun r11 =>
  b_X1_repair_134 d r11.1
def b_X1_repair_105 (d : Nat) (x2 : Option Nat) (x3 : Option Nat) (x4 : Option Nat) (s0 : Int32) (s1 : Int32) (w : Wd) : Option (Wd × Unit) :=
  if s0 = s1 then
    b_X1_repair_115 d x3 x4 w
  else
    (f_X1_rotateUp d x2 w).bind fun r9 =>
    b_X1_repair_115 d x2 x4 r9.1
def b_X1_repair_92 (d : Nat) (x2 : Option Nat) (x3 : Option Nat) (x4 : Option Nat) (s0 : Int32) (w : Wd) : Option (Wd × Unit) :=
  (x3).bind fun a8 =>
  if (gR w a8 8) = x2 then
    b_X1_repair_105 d x2 x3 x4 s0 1 w
  else
    b_X1_repair_105 d x2 x3 x4 s0 0 w
def b_X1_repair_45 (d : Nat) (k2 : Option Nat → Wd → Option (Wd × Unit)) (x2 : Option Nat) (x3 : Option Nat) (x4 : Option Nat) (s0 : Option Nat) (w : Wd) : Option (Wd × Unit) :=
  (f_X1_isRedNode d s0 w).bind fun r6 =>
  if r6.2 = 0 then
    (x4).bind fun a7 =>
    if (gR r6.1 a7 8) = x3 then
      b_X1_repair_92 d x2 x3 x4 1 r6.1
    else
      b_X1_repair_92 d x2 x3 x4 0 r6.1
  else
    (x3).bind fun a8 =>
    (s0).bind fun a9 =>
    (x4).bind fun a10 =>
    k2 x4 (sI (sI (sI r6.1 a8 5 0) a9 5 0) a10 5 1)
def b_X1_repair_2 (d : Nat) : Nat → Option Nat → Wd → Option (Wd × Unit)
  | 0, _, _ => none
  | n + 1, x2, w =>
    (x2).bind fun a1 =>
    (f_X1_isRedNode d (gR w a1 7) w).bind fun r2 =>
    if r2.2 = 0 then
      b_X1_repair_134 d r2.1
    else
      (gR r2.1 a1 7).bind fun a3 =>
      (gR r2.1 a3 7).bind fun a4 =>
      if (gR r2.1 a4 8) = (gR r2.1 a1 7) then
        b_X1_repair_45 d (b_X1_repair_2 d n) x2 (gR r2.1 a1 7) (gR r2.1 a3 7) (gR r2.1 a4 9) r2.1
      else
        b_X1_repair_45 d (b_X1_repair_2 d n) x2 (gR r2.1 a1 7) (gR r2.1 a3 7) (gR r2.1 a4 8) r2.1
def f_X1_repair (d : Nat) (p1 : Option Nat) (w : Wd) : Option (Wd × Unit) :=
  match d with
  | 0 => none
  | d + 1 =>
    b_X1_repair_2 d FU p1 w
theorem sb_X1_repair_134 {G : Gx} (hG : GW G) {M : Mx} (hl : (mL M).stackTraces = false) {w0 : Wd} {d : Nat} (K : Cx (G, true, M, 6, w0) cX1_repair "IntervalTree" (d + 1)) (hr : (mH M).sig.returnType = none) (hnm : (mH M).name = yX1_repair.name) (hxt : ∀ x ∈ (mC M).exceptionTable.toList, False) (hnd : (mS M).methodNamed? yX1_repair = some (mM M)) : ∀ (w : Wd), Jf (G, true, M, 6, w0) (rrV G pU) (b_X1_repair_134 d w) w 134 [some (aR 1 (some 8)), none, none, none, none, none] [] := by
  intro w
  refine j_aload_n K dX1_repair_134 rfl ?_
  refine j_getR (k := 4) K dX1_repair_135 rfl rfl rfl q185 rfl rfl (by decide) rfl ?_
  refine j_iconstZ K dX1_repair_138 rfl (Or.inl rfl) ?_
  refine j_nn (fun a3 ha3 => ?_)
  refine j_putZ (k := 5) K dX1_repair_139 rfl rfl q550 rfl (Or.inl rfl) rfl rfl ha3 ?_
  exact j_vret K hr dX1_repair_142
theorem sb_X1_repair_115 {G : Gx} (hG : GW G) {M : Mx} (hl : (mL M).stackTraces = false) {w0 : Wd} {d : Nat} (K : Cx (G, true, M, 6, w0) cX1_repair "IntervalTree" (d + 1)) (hr : (mH M).sig.returnType = none) (hnm : (mH M).name = yX1_repair.name) (hxt : ∀ x ∈ (mC M).exceptionTable.toList, False) (hnd : (mS M).methodNamed? yX1_repair = some (mM M)) : ∀ (x3 : Option Nat) (x4 : Option Nat) (w : Wd), Jf (G, true, M, 6, w0) (rrV G pU) (b_X1_repair_115 d x3 x4 w) w 115 [some (aR 1 (some 8)), none, none, some (aR 4 x3), some (aR 4 x4), none] [] := by
  intro x3 x4 w
  refine j_aload_n K dX1_repair_115 rfl ?_
  refine j_iconstZ K dX1_repair_116 rfl (Or.inl rfl) ?_
  refine j_nn (fun a9 ha9 => ?_)
  refine j_putZ (k := 5) K dX1_repair_117 rfl rfl q550 rfl (Or.inl rfl) rfl rfl ha9 ?_
  refine j_aload K dX1_repair_120 rfl ?_
  refine j_iconstZ K dX1_repair_122 rfl (Or.inr rfl) ?_
  refine j_nn (fun a10 ha10 => ?_)
  refine j_putZ (k := 5) K dX1_repair_123 rfl rfl q550 rfl (Or.inl rfl) rfl rfl ha10 ?_
  refine j_aload_n K dX1_repair_126 rfl ?_
  refine j_aload_n K dX1_repair_127 rfl ?_
  refine j_callV _ K (sim_X1_rotateUp hG hl d x3 (sI (sI w a9 5 0) a10 5 1)) dX1_repair_128 rfl rfl q619 q621 qs17 q93 q622 pm_X1_rotateUp rfl rfl rfl rfl rfl (fun r11 _ => ?_)
  refine j_goto 134 K dX1_repair_131 (by decide) ?_
  exact j_wk (sb_X1_repair_134 hG hl K hr hnm hxt hnd _) ⟨rfl, trivial⟩
theorem sb_X1_repair_105 {G : Gx} (hG : GW G) {M : Mx} (hl : (mL M).stackTraces = false) {w0 : Wd} {d : Nat} (K : Cx (G, true, M, 6, w0) cX1_repair "IntervalTree" (d + 1)) (hr : (mH M).sig.returnType = none) (hnm : (mH M).name = yX1_repair.name) (hxt : ∀ x ∈ (mC M).exceptionTable.toList, False) (hnd : (mS M).methodNamed? yX1_repair = some (mM M)) : ∀ (x2 : Option Nat) (x3 : Option Nat) (x4 : Option Nat) (s0 : Int32) (s1 : Int32) (w : Wd), Jf (G, true, M, 6, w0) (rrV G pU) (b_X1_repair_105 d x2 x3 x4 s0 s1 w) w 105 [some (aR 1 (some 8)), none, some (aR 4 x2), some (aR 4 x3), some (aR 4 x4), none] [aB true s1, aB true s0] := by
  intro x2 x3 x4 s0 s1 w
  refine j_icmp_eq 115 K dX1_repair_105 (by decide) ?_ ?_
  · exact j_wk (sb_X1_repair_115 hG hl K hr hnm hxt hnd _ _ _) ⟨rfl, rfl, rfl, trivial⟩
  · refine j_aload_n K dX1_repair_108 rfl ?_
    refine j_aload_n K dX1_repair_109 rfl ?_
    refine j_callV _ K (sim_X1_rotateUp hG hl d x2 w) dX1_repair_110 rfl rfl q619 q621 qs17 q93 q622 pm_X1_rotateUp rfl rfl rfl rfl rfl (fun r9 _ => ?_)
    refine j_aload_n K dX1_repair_113 rfl ?_
    refine j_astore_n K dX1_repair_114 rfl rfl ?_
    exact j_wk (sb_X1_repair_115 hG hl K hr hnm hxt hnd _ _ _) ⟨rfl, rfl, rfl, trivial⟩
theorem sb_X1_repair_92 {G : Gx} (hG : GW G) {M : Mx} (hl : (mL M).stackTraces = false) {w0 : Wd} {d : Nat} (K : Cx (G, true, M, 6, w0) cX1_repair "IntervalTree" (d + 1)) (hr : (mH M).sig.returnType = none) (hnm : (mH M).name = yX1_repair.name) (hxt : ∀ x ∈ (mC M).exceptionTable.toList, False) (hnd : (mS M).methodNamed? yX1_repair = some (mM M)) : ∀ (x2 : Option Nat) (x3 : Option Nat) (x4 : Option Nat) (s0 : Int32) (w : Wd), Jf (G, true, M, 6, w0) (rrV G pU) (b_X1_repair_92 d x2 x3 x4 s0 w) w 92 [some (aR 1 (some 8)), none, some (aR 4 x2), some (aR 4 x3), some (aR 4 x4), none] [aB true s0] := by
  intro x2 x3 x4 s0 w
  refine j_aload_n K dX1_repair_92 rfl ?_
  refine j_nn (fun a8 ha8 => ?_)
  refine j_getR (k := 8) K dX1_repair_93 rfl rfl rfl q555 rfl rfl (by decide) ha8 ?_
  refine j_aload_n K dX1_repair_96 rfl ?_
  refine j_acmp_ne 104 K dX1_repair_97 (by decide) rfl ?_ ?_
  · refine j_iconstZ K dX1_repair_104 rfl (Or.inl rfl) ?_
    exact j_wk (sb_X1_repair_105 hG hl K hr hnm hxt hnd _ _ _ _ _ _) ⟨rfl, rfl, rfl, rfl, trivial⟩
  · refine j_iconstZ K dX1_repair_100 rfl (Or.inr rfl) ?_
    refine j_goto 105 K dX1_repair_101 (by decide) ?_
    exact j_wk (sb_X1_repair_105 hG hl K hr hnm hxt hnd _ _ _ _ _ _) ⟨rfl, rfl, rfl, rfl, trivial⟩
theorem sb_X1_repair_45 {G : Gx} (hG : GW G) {M : Mx} (hl : (mL M).stackTraces = false) {w0 : Wd} {d : Nat} (K : Cx (G, true, M, 6, w0) cX1_repair "IntervalTree" (d + 1)) (hr : (mH M).sig.returnType = none) (hnm : (mH M).name = yX1_repair.name) (hxt : ∀ x ∈ (mC M).exceptionTable.toList, False) (hnd : (mS M).methodNamed? yX1_repair = some (mM M)) {k2 : Option Nat → Wd → Option (Wd × Unit)} (hk2 : ∀ (x2 : Option Nat) (w : Wd), Jf (G, true, M, 6, w0) (rrV G pU) (k2 x2 w) w 2 [some (aR 1 (some 8)), none, some (aR 4 x2), none, none, none] []) : ∀ (x2 : Option Nat) (x3 : Option Nat) (x4 : Option Nat) (s0 : Option Nat) (w : Wd), Jf (G, true, M, 6, w0) (rrV G pU) (b_X1_repair_45 d k2 x2 x3 x4 s0 w) w 45 [some (aR 1 (some 8)), none, some (aR 4 x2), some (aR 4 x3), some (aR 4 x4), none] [aR 4 s0] := by
  intro x2 x3 x4 s0 w
  refine j_astore K dX1_repair_45 rfl rfl ?_
  refine j_aload K dX1_repair_47 rfl ?_
  refine j_callS _ K (sim_X1_isRedNode hG hl d s0 w) dX1_repair_49 q616 q617 q93 q618 pm_X1_isRedNode.2 rfl rfl rfl rfl (fun r6 _ => ?_)
  refine j_if_eq 78 K dX1_repair_52 (by decide) ?_ ?_
  · refine j_aload K dX1_repair_78 rfl ?_
    refine j_nn (fun a7 ha7 => ?_)
    refine j_getR (k := 8) K dX1_repair_80 rfl rfl rfl q555 rfl rfl (by decide) ha7 ?_
    refine j_aload_n K dX1_repair_83 rfl ?_
    refine j_acmp_ne 91 K dX1_repair_84 (by decide) rfl ?_ ?_
    · refine j_iconstZ K dX1_repair_91 rfl (Or.inl rfl) ?_
      exact j_wk (sb_X1_repair_92 hG hl K hr hnm hxt hnd _ _ _ _ _) ⟨rfl, rfl, rfl, rfl, trivial⟩
    · refine j_iconstZ K dX1_repair_87 rfl (Or.inr rfl) ?_
      refine j_goto 92 K dX1_repair_88 (by decide) ?_
      exact j_wk (sb_X1_repair_92 hG hl K hr hnm hxt hnd _ _ _ _ _) ⟨rfl, rfl, rfl, rfl, trivial⟩
  · refine j_aload_n K dX1_repair_55 rfl ?_
    refine j_iconstZ K dX1_repair_56 rfl (Or.inl rfl) ?_
    refine j_nn (fun a8 ha8 => ?_)
    refine j_putZ (k := 5) K dX1_repair_57 rfl rfl q550 rfl (Or.inl rfl) rfl rfl ha8 ?_
    refine j_aload K dX1_repair_60 rfl ?_
    refine j_iconstZ K dX1_repair_62 rfl (Or.inl rfl) ?_
    refine j_nn (fun a9 ha9 => ?_)
    refine j_putZ (k := 5) K dX1_repair_63 rfl rfl q550 rfl (Or.inl rfl) rfl rfl ha9 ?_
    refine j_aload K dX1_repair_66 rfl ?_
    refine j_iconstZ K dX1_repair_68 rfl (Or.inr rfl) ?_
    refine j_nn (fun a10 ha10 => ?_)
    refine j_putZ (k := 5) K dX1_repair_69 rfl rfl q550 rfl (Or.inl rfl) rfl rfl ha10 ?_
    refine j_aload K dX1_repair_72 rfl ?_
    refine j_astore_n K dX1_repair_74 rfl rfl ?_
    refine j_goto 2 K dX1_repair_75 (by decide) ?_
    exact j_wk (hk2 _ _) ⟨rfl, rfl, trivial⟩
theorem sb_X1_repair_2 {G : Gx} (hG : GW G) {M : Mx} (hl : (mL M).stackTraces = false) {w0 : Wd} {d : Nat} (K : Cx (G, true, M, 6, w0) cX1_repair "IntervalTree" (d + 1)) (hr : (mH M).sig.returnType = none) (hnm : (mH M).name = yX1_repair.name) (hxt : ∀ x ∈ (mC M).exceptionTable.toList, False) (hnd : (mS M).methodNamed? yX1_repair = some (mM M)) : ∀ (n : Nat), ∀ (x2 : Option Nat) (w : Wd), Jf (G, true, M, 6, w0) (rrV G pU) (b_X1_repair_2 d n x2 w) w 2 [some (aR 1 (some 8)), none, some (aR 4 x2), none, none, none] [] := by
  intro n
  induction n with
  | zero => intros; exact j_none
  | succ n ih =>
    intro x2 w
    refine j_aload_n K dX1_repair_2 rfl ?_
    refine j_nn (fun a1 ha1 => ?_)
    refine j_getR (k := 7) K dX1_repair_3 rfl rfl rfl q553 rfl rfl (by decide) ha1 ?_
    refine j_callS _ K (sim_X1_isRedNode hG hl d (gR w a1 7) w) dX1_repair_6 q616 q617 q93 q618 pm_X1_isRedNode.2 rfl rfl rfl rfl (fun r2 _ => ?_)
    refine j_if_eq 134 K dX1_repair_9 (by decide) ?_ ?_
    · exact j_wk (sb_X1_repair_134 hG hl K hr hnm hxt hnd _) ⟨rfl, trivial⟩
    · refine j_aload_n K dX1_repair_12 rfl ?_
      refine j_getR (k := 7) K dX1_repair_13 rfl rfl rfl q553 rfl rfl (by decide) ha1 ?_
      refine j_astore_n K dX1_repair_16 rfl rfl ?_
      refine j_aload_n K dX1_repair_17 rfl ?_
      refine j_nn (fun a3 ha3 => ?_)
      refine j_getR (k := 7) K dX1_repair_18 rfl rfl rfl q553 rfl rfl (by decide) ha3 ?_
      refine j_astore K dX1_repair_21 rfl rfl ?_
      refine j_aload K dX1_repair_23 rfl ?_
      refine j_nn (fun a4 ha4 => ?_)
      refine j_getR (k := 8) K dX1_repair_25 rfl rfl rfl q555 rfl rfl (by decide) ha4 ?_
      refine j_aload_n K dX1_repair_28 rfl ?_
      refine j_acmp_ne 40 K dX1_repair_29 (by decide) rfl ?_ ?_
      · refine j_aload K dX1_repair_40 rfl ?_
        refine j_getR (k := 8) K dX1_repair_42 rfl rfl rfl q555 rfl rfl (by decide) ha4 ?_
        exact j_wk (sb_X1_repair_45 hG hl K hr hnm hxt hnd ih _ _ _ _ _) ⟨rfl, rfl, rfl, rfl, trivial⟩
      · refine j_aload K dX1_repair_32 rfl ?_
        refine j_getR (k := 9) K dX1_repair_34 rfl rfl rfl q557 rfl rfl (by decide) ha4 ?_
        refine j_goto 45 K dX1_repair_37 (by decide) ?_
        exact j_wk (sb_X1_repair_45 hG hl K hr hnm hxt hnd ih _ _ _ _ _) ⟨rfl, rfl, rfl, rfl, trivial⟩
theorem sim_X1_repair {G : Gx} (hG : GW G) {l : Launch} (hl : l.stackTraces = false) (d : Nat) (p1 : Option Nat) (w : Wd) : Mt G true l yX1_repair (ws_ yX1_repair cX1_repair 6 (none)) d (rrV G pU) [aR 1 (some 8), aR 4 p1] w (f_X1_repair d p1 w) := by
  refine Mt.of (own := "IntervalTree") hG hl (by decide +kernel) rfl rfl ?_
  intro M hM hr hnm hxt hnd K
  subst hM
  cases d with
  | zero => exact j_none
  | succ d =>
    refine j_aload_n K dX1_repair_0 rfl ?_
    refine j_astore_n K dX1_repair_1 rfl rfl ?_
    exact j_wk (sb_X1_repair_2 hG hl K hr hnm hxt hnd FU _ _) ⟨rfl, rfl, trivial⟩

theorem pm_X1_attach : yX1_attach.cls = RX1 ∧ yX1_attach.cls ≠ "java/lang/invoke/MethodHandle" ∧ yX1_attach.cls ≠ "java/lang/invoke/VarHandle" ∧ (parseMethodDescriptor yX1_attach.desc).map (fun d => d.parameters.length) = some 1 := by decide +kernel
def b_X1_attach_78 (d : Nat) (x1 : Option Nat) (w : Wd) : Option (Wd × Unit) :=
  (x1).bind fun a2 =>
  (f_X1_pullPath d x1 (sI w a2 5 1)).bind fun r3 =>
  (f_X1_repair d x1 r3.1).bind fun r4 =>
  some (r4.1, ())
def b_X1_attach_36 (d : Nat) (k7 : Option Nat → Option Nat → Option Nat → Wd → Option (Wd × Unit)) (x1 : Option Nat) (x2 : Option Nat) (s0 : Option Nat) (w : Wd) : Option (Wd × Unit) :=
  k7 x1 x2 s0 w
def b_X1_attach_7 (d : Nat) : Nat → Option Nat → Option Nat → Option Nat → Wd → Option (Wd × Unit)
  | 0, _, _, _, _ => none
  | n + 1, x1, x2, x3, w =>
    (x3).elim
      ((x1).bind fun a1 =>
      (x2).elim
        (b_X1_attach_78 d x1 (sR (sR w a1 7 x2) 8 4 x1))
        fun a2 =>
        (f_X4_isBefore d a1 x2 (sR w a1 7 x2)).bind fun r3 =>
        if r3.2 = 0 then
          b_X1_attach_78 d x1 (sR r3.1 a2 9 x1)
        else
          b_X1_attach_78 d x1 (sR r3.1 a2 8 x1))
      fun a4 =>
      (f_X4_push d a4 w).bind fun r5 =>
      (x1).bind fun a6 =>
      (f_X4_isBefore d a6 x3 r5.1).bind fun r7 =>
      if r7.2 = 0 then
        b_X1_attach_36 d (b_X1_attach_7 d n) x1 x3 (gR r7.1 a4 9) r7.1
      else
        b_X1_attach_36 d (b_X1_attach_7 d n) x1 x3 (gR r7.1 a4 8) r7.1
def f_X1_attach (d : Nat) (p1 : Option Nat) (w : Wd) : Option (Wd × Unit) :=
  match d with
  | 0 => none
  | d + 1 =>
    b_X1_attach_7 d FU p1 none (gR w 8 4) w
theorem sb_X1_attach_78 {G : Gx} (hG : GW G) {M : Mx} (hl : (mL M).stackTraces = false) {w0 : Wd} {d : Nat} (K : Cx (G, true, M, 4, w0) cX1_attach "IntervalTree" (d + 1)) (hr : (mH M).sig.returnType = none) (hnm : (mH M).name = yX1_attach.name) (hxt : ∀ x ∈ (mC M).exceptionTable.toList, False) (hnd : (mS M).methodNamed? yX1_attach = some (mM M)) : ∀ (x1 : Option Nat) (w : Wd), Jf (G, true, M, 4, w0) (rrV G pU) (b_X1_attach_78 d x1 w) w 78 [some (aR 1 (some 8)), some (aR 4 x1), none, none] [] := by
  intro x1 w
  refine j_aload_n K dX1_attach_78 rfl ?_
  refine j_iconstZ K dX1_attach_79 rfl (Or.inr rfl) ?_
  refine j_nn (fun a2 ha2 => ?_)
  refine j_putZ (k := 5) K dX1_attach_80 rfl rfl q550 rfl (Or.inl rfl) rfl rfl ha2 ?_
  refine j_aload_n K dX1_attach_83 rfl ?_
  refine j_aload_n K dX1_attach_84 rfl ?_
  refine j_callV _ K (sim_X1_pullPath hG hl d x1 (sI w a2 5 1)) dX1_attach_85 rfl rfl q608 q610 qs15 q93 q611 pm_X1_pullPath rfl rfl rfl rfl rfl (fun r3 _ => ?_)
  refine j_aload_n K dX1_attach_88 rfl ?_
  refine j_aload_n K dX1_attach_89 rfl ?_
  refine j_callV _ K (sim_X1_repair hG hl d x1 r3.1) dX1_attach_90 rfl rfl q612 q614 qs16 q93 q615 pm_X1_repair rfl rfl rfl rfl rfl (fun r4 _ => ?_)
  exact j_vret K hr dX1_attach_93
theorem sb_X1_attach_36 {G : Gx} (hG : GW G) {M : Mx} (hl : (mL M).stackTraces = false) {w0 : Wd} {d : Nat} (K : Cx (G, true, M, 4, w0) cX1_attach "IntervalTree" (d + 1)) (hr : (mH M).sig.returnType = none) (hnm : (mH M).name = yX1_attach.name) (hxt : ∀ x ∈ (mC M).exceptionTable.toList, False) (hnd : (mS M).methodNamed? yX1_attach = some (mM M)) {k7 : Option Nat → Option Nat → Option Nat → Wd → Option (Wd × Unit)} (hk7 : ∀ (x1 : Option Nat) (x2 : Option Nat) (x3 : Option Nat) (w : Wd), Jf (G, true, M, 4, w0) (rrV G pU) (k7 x1 x2 x3 w) w 7 [some (aR 1 (some 8)), some (aR 4 x1), some (aR 4 x2), some (aR 4 x3)] []) : ∀ (x1 : Option Nat) (x2 : Option Nat) (s0 : Option Nat) (w : Wd), Jf (G, true, M, 4, w0) (rrV G pU) (b_X1_attach_36 d k7 x1 x2 s0 w) w 36 [some (aR 1 (some 8)), some (aR 4 x1), some (aR 4 x2), none] [aR 4 s0] := by
  intro x1 x2 s0 w
  refine j_astore_n K dX1_attach_36 rfl rfl ?_
  refine j_goto 7 K dX1_attach_37 (by decide) ?_
  exact hk7 _ _ _ _
theorem sb_X1_attach_7 {G : Gx} (hG : GW G) {M : Mx} (hl : (mL M).stackTraces = false) {w0 : Wd} {d : Nat} (K : Cx (G, true, M, 4, w0) cX1_attach "IntervalTree" (d + 1)) (hr : (mH M).sig.returnType = none) (hnm : (mH M).name = yX1_attach.name) (hxt : ∀ x ∈ (mC M).exceptionTable.toList, False) (hnd : (mS M).methodNamed? yX1_attach = some (mM M)) : ∀ (n : Nat), ∀ (x1 : Option Nat) (x2 : Option Nat) (x3 : Option Nat) (w : Wd), Jf (G, true, M, 4, w0) (rrV G pU) (b_X1_attach_7 d n x1 x2 x3 w) w 7 [some (aR 1 (some 8)), some (aR 4 x1), some (aR 4 x2), some (aR 4 x3)] [] := by
  intro n
  induction n with
  | zero => intros; exact j_none
  | succ n ih =>
    intro x1 x2 x3 w
    refine j_aload_n K dX1_attach_7 rfl ?_
    refine j_ifnull 40 K dX1_attach_8 (by decide) (fun _ => ?_) (fun a4 ha4 => ?_)
    · refine j_aload_n K dX1_attach_40 rfl ?_
      refine j_aload_n K dX1_attach_41 rfl ?_
      refine j_nn (fun a1 ha1 => ?_)
      refine j_putR (k := 7) K dX1_attach_42 rfl rfl q553 rfl (Or.inl rfl) rfl (Or.inl ⟨_, rfl⟩) rfl (by decide) rfl (fun _ => by decide +kernel) ha1 ?_
      refine j_aload_n K dX1_attach_45 rfl ?_
      refine j_ifnonnull 57 K dX1_attach_46 (by decide) (fun a2 ha2 => ?_) (fun _ => ?_)
      · refine j_aload_n K dX1_attach_57 rfl ?_
        refine j_aload_n K dX1_attach_58 rfl ?_
        refine j_callV _ K (sim_X4_isBefore hG hl d a1 x2 (sR w a1 7 x2)) dX1_attach_59 rfl rfl q603 q604 q605 q102 q606 pm_X4_isBefore rfl rfl rfl ha1 rfl (fun r3 _ => ?_)
        refine j_if_eq 73 K dX1_attach_62 (by decide) ?_ ?_
        · refine j_aload_n K dX1_attach_73 rfl ?_
          refine j_aload_n K dX1_attach_74 rfl ?_
          refine j_putR (k := 9) K dX1_attach_75 rfl rfl q557 rfl (Or.inl rfl) rfl (Or.inl ⟨_, rfl⟩) rfl (by decide) rfl (fun _ => by decide +kernel) ha2 ?_
          exact j_wk (sb_X1_attach_78 hG hl K hr hnm hxt hnd _ _) ⟨rfl, rfl, trivial⟩
        · refine j_aload_n K dX1_attach_65 rfl ?_
          refine j_aload_n K dX1_attach_66 rfl ?_
          refine j_putR (k := 8) K dX1_attach_67 rfl rfl q555 rfl (Or.inl rfl) rfl (Or.inl ⟨_, rfl⟩) rfl (by decide) rfl (fun _ => by decide +kernel) ha2 ?_
          refine j_goto 78 K dX1_attach_70 (by decide) ?_
          exact j_wk (sb_X1_attach_78 hG hl K hr hnm hxt hnd _ _) ⟨rfl, rfl, trivial⟩
      · refine j_aload_n K dX1_attach_49 rfl ?_
        refine j_aload_n K dX1_attach_50 rfl ?_
        refine j_putR (k := 4) K dX1_attach_51 rfl rfl q185 rfl (Or.inl rfl) rfl (Or.inl ⟨_, rfl⟩) rfl (by decide) rfl (fun _ => by decide +kernel) rfl ?_
        refine j_goto 78 K dX1_attach_54 (by decide) ?_
        exact j_wk (sb_X1_attach_78 hG hl K hr hnm hxt hnd _ _) ⟨rfl, rfl, trivial⟩
    · refine j_aload_n K dX1_attach_11 rfl ?_
      refine j_callV _ K (sim_X4_push hG hl d a4 w) dX1_attach_12 rfl rfl q312 q313 q314 q102 q315 pm_X4_push rfl rfl rfl ha4 rfl (fun r5 _ => ?_)
      refine j_aload_n K dX1_attach_15 rfl ?_
      refine j_astore_n K dX1_attach_16 rfl rfl ?_
      refine j_aload_n K dX1_attach_17 rfl ?_
      refine j_aload_n K dX1_attach_18 rfl ?_
      refine j_nn (fun a6 ha6 => ?_)
      refine j_callV _ K (sim_X4_isBefore hG hl d a6 x3 r5.1) dX1_attach_19 rfl rfl q603 q604 q605 q102 q606 pm_X4_isBefore rfl rfl rfl ha6 rfl (fun r7 _ => ?_)
      refine j_if_eq 32 K dX1_attach_22 (by decide) ?_ ?_
      · refine j_aload_n K dX1_attach_32 rfl ?_
        refine j_getR (k := 9) K dX1_attach_33 rfl rfl rfl q557 rfl rfl (by decide) ha4 ?_
        exact j_wk (sb_X1_attach_36 hG hl K hr hnm hxt hnd ih _ _ _ _) ⟨rfl, rfl, rfl, trivial⟩
      · refine j_aload_n K dX1_attach_25 rfl ?_
        refine j_getR (k := 8) K dX1_attach_26 rfl rfl rfl q555 rfl rfl (by decide) ha4 ?_
        refine j_goto 36 K dX1_attach_29 (by decide) ?_
        exact j_wk (sb_X1_attach_36 hG hl K hr hnm hxt hnd ih _ _ _ _) ⟨rfl, rfl, rfl, trivial⟩
theorem sim_X1_attach {G : Gx} (hG : GW G) {l : Launch} (hl : l.stackTraces = false) (d : Nat) (p1 : Option Nat) (w : Wd) : Mt G true l yX1_attach (ws_ yX1_attach cX1_attach 4 (none)) d (rrV G pU) [aR 1 (some 8), aR 4 p1] w (f_X1_attach d p1 w) := by
  refine Mt.of (own := "IntervalTree") hG hl (by decide +kernel) rfl rfl ?_
  intro M hM hr hnm hxt hnd K
  subst hM
  cases d with
  | zero => exact j_none
  | succ d =>
    refine j_null 4 K dX1_attach_0 ?_
    refine j_astore_n K dX1_attach_1 rfl rfl ?_
    refine j_aload_n K dX1_attach_2 rfl ?_
    refine j_getR (k := 4) K dX1_attach_3 rfl rfl rfl q185 rfl rfl (by decide) rfl ?_
    refine j_astore_n K dX1_attach_6 rfl rfl ?_
    exact sb_X1_attach_7 hG hl K hr hnm hxt hnd FU _ _ _ _

theorem pm_X1_insert : yX1_insert.cls = RX1 ∧ yX1_insert.cls ≠ "java/lang/invoke/MethodHandle" ∧ yX1_insert.cls ≠ "java/lang/invoke/VarHandle" ∧ (parseMethodDescriptor yX1_insert.desc).map (fun d => d.parameters.length) = some 3 := by decide +kernel
def b_X1_insert_93 (d : Nat) (x1 : Int32) (x2 : Int32) (x3 : Int32) (w : Wd) : Option (Wd × (Int32 ⊕ Nat)) :=
  (nwB w 4 0 15).bind fun w3 =>
  (f_X4_init d (gN w) (gI w3 8 5) x1 x2 x3 w3).bind fun r4 =>
  if ib (gI r4.1 8 5) 500 = true then
    (f_X1_attach d (some (gN w)) (sI (sI (sR r4.1 9 (gI r4.1 8 5).toNatClampNeg (some (gN w))) 8 5 ((gI (sR r4.1 9 (gI r4.1 8 5).toNatClampNeg (some (gN w))) 8 5) + 1)) 8 6 ((gI (sI (sR r4.1 9 (gI r4.1 8 5).toNatClampNeg (some (gN w))) 8 5 ((gI (sR r4.1 9 (gI r4.1 8 5).toNatClampNeg (some (gN w))) 8 5) + 1)) 8 6) + 1))).bind fun r6 =>
    some (r6.1, .inl (gI r6.1 (gN w) 0))
  else none
def b_X1_insert_69 (d : Nat) (w : Wd) : Option (Wd × (Int32 ⊕ Nat)) :=
  if 8 ≤ d then
    if room w 6 = true then
      some (nw w 41 0 6, .inr (gN w))
    else none
  else none
def b_X1_insert_59 (d : Nat) (x1 : Int32) (x2 : Int32) (x3 : Int32) (w : Wd) : Option (Wd × (Int32 ⊕ Nat)) :=
  if (gI w 8 5) = 500 then
    b_X1_insert_69 d w
  else
    if (gI w 8 6) = 100 then
      (f_X1_rebuildTree d w).bind fun r3 =>
      b_X1_insert_93 d x1 x2 x3 r3.1
    else
      b_X1_insert_93 d x1 x2 x3 w
def b_X1_insert_40 (d : Nat) (x1 : Int32) (x2 : Int32) (x3 : Int32) (s0 : Int32) (w : Wd) : Option (Wd × (Int32 ⊕ Nat)) :=
  bX (f_X1_check d s0 w) fun wr2 r2 =>
  if (gI wr2 8 6) = 100 then
    if (gI wr2 8 7) = 0 then
      b_X1_insert_69 d wr2
    else
      b_X1_insert_59 d x1 x2 x3 wr2
  else
    b_X1_insert_59 d x1 x2 x3 wr2
def b_X1_insert_39 (d : Nat) (x1 : Int32) (x2 : Int32) (x3 : Int32) (w : Wd) : Option (Wd × (Int32 ⊕ Nat)) :=
  b_X1_insert_40 d x1 x2 x3 0 w
def f_X1_insert (d : Nat) (p1 : Int32) (p2 : Int32) (p3 : Int32) (w : Wd) : Option (Wd × (Int32 ⊕ Nat)) :=
  match d with
  | 0 => none
  | d + 1 =>
    (f_X1_isBetween d p1 (-1000) 1000 w).bind fun r1 =>
    if r1.2 = 0 then
      b_X1_insert_39 d p1 p2 p3 r1.1
    else
      (f_X1_isBetween d p2 p1 1000 r1.1).bind fun r2 =>
      if r2.2 = 0 then
        b_X1_insert_39 d p1 p2 p3 r2.1
      else
        (f_X1_isBetween d p3 0 999 r2.1).bind fun r3 =>
        if r3.2 = 0 then
          b_X1_insert_39 d p1 p2 p3 r3.1
        else
          b_X1_insert_40 d p1 p2 p3 1 r3.1
theorem sb_X1_insert_93 {G : Gx} (hG : GW G) {M : Mx} (hl : (mL M).stackTraces = false) {w0 : Wd} {d : Nat} (K : Cx (G, true, M, 5, w0) cX1_insert "IntervalTree" (d + 1)) (hr : (mH M).sig.returnType = some .int) (hnm : (mH M).name = yX1_insert.name) (hxt : ∀ x ∈ (mC M).exceptionTable.toList, False) (hnd : (mS M).methodNamed? yX1_insert = some (mM M)) : ∀ (x1 : Int32) (x2 : Int32) (x3 : Int32) (w : Wd) (fx1 : Bool) (fx2 : Bool) (fx3 : Bool), Jf (G, true, M, 5, w0) (rrX G pI) (b_X1_insert_93 d x1 x2 x3 w) w 93 [some (aR 1 (some 8)), some (aB fx1 x1), some (aB fx2 x2), some (aB fx3 x3), none] [] := by
  intro x1 x2 x3 w fx1 fx2 fx3
  refine j_newB (kd := 4) (n := 15) K dX1_insert_93 rfl rfl q124 q338 q102 (fun w3 => ?_)
  refine j_dup K dX1_insert_96 rfl ?_
  refine j_aload_n K dX1_insert_97 rfl ?_
  refine j_getI (k := 5) K dX1_insert_98 rfl rfl rfl q186 rfl rfl rfl ?_
  refine j_iload_n K dX1_insert_101 rfl ?_
  refine j_iload_n K dX1_insert_102 rfl ?_
  refine j_iload_n K dX1_insert_103 rfl ?_
  refine j_callI _ K (sim_X4_init hG hl d (gN w) (gI w3 8 5) x1 x2 x3 w3 false fx1 fx2 fx3) dX1_insert_104 q536 q537 q102 q538 rfl pm_X4_init.2 rfl rfl rfl rfl rfl (fun r4 _ => ?_)
  refine j_astore K dX1_insert_107 rfl rfl ?_
  refine j_aload_n K dX1_insert_109 rfl ?_
  refine j_getA (k := 0) 0 K dX1_insert_110 rfl rfl rfl q179 rfl rfl (by decide) rfl rfl rfl ?_
  refine j_aload_n K dX1_insert_113 rfl ?_
  refine j_getI (k := 5) K dX1_insert_114 rfl rfl rfl q186 rfl rfl rfl ?_
  refine j_aload K dX1_insert_117 rfl ?_
  refine j_ib (fun hi5 => ?_)
  refine j_aas K dX1_insert_119 rfl rfl (fun _ => rfl) rfl rfl rfl (fxLen2 0 rfl rfl) hi5 ?_
  refine j_aload_n K dX1_insert_120 rfl ?_
  refine j_dup K dX1_insert_121 rfl ?_
  refine j_getI (k := 5) K dX1_insert_122 rfl rfl rfl q186 rfl rfl rfl ?_
  refine j_iconstZ K dX1_insert_125 rfl (Or.inr rfl) ?_
  refine j_iadd K dX1_insert_126 ?_
  refine j_putI (k := 5) K dX1_insert_127 rfl rfl q186 rfl (Or.inl rfl) rfl rfl rfl rfl ?_
  refine j_aload_n K dX1_insert_130 rfl ?_
  refine j_dup K dX1_insert_131 rfl ?_
  refine j_getI (k := 6) K dX1_insert_132 rfl rfl rfl q187 rfl rfl rfl ?_
  refine j_iconstZ K dX1_insert_135 rfl (Or.inr rfl) ?_
  refine j_iadd K dX1_insert_136 ?_
  refine j_putI (k := 6) K dX1_insert_137 rfl rfl q187 rfl (Or.inl rfl) rfl rfl rfl rfl ?_
  refine j_aload_n K dX1_insert_140 rfl ?_
  refine j_aload K dX1_insert_141 rfl ?_
  refine j_callV _ K (sim_X1_attach hG hl d (some (gN w)) (sI (sI (sR r4.1 9 (gI r4.1 8 5).toNatClampNeg (some (gN w))) 8 5 ((gI (sR r4.1 9 (gI r4.1 8 5).toNatClampNeg (some (gN w))) 8 5) + 1)) 8 6 ((gI (sI (sR r4.1 9 (gI r4.1 8 5).toNatClampNeg (some (gN w))) 8 5 ((gI (sR r4.1 9 (gI r4.1 8 5).toNatClampNeg (some (gN w))) 8 5) + 1)) 8 6) + 1))) dX1_insert_143 rfl rfl q599 q601 qs14 q93 q602 pm_X1_attach rfl rfl rfl rfl rfl (fun r6 _ => ?_)
  refine j_aload K dX1_insert_146 rfl ?_
  refine j_getI (k := 0) K dX1_insert_148 rfl rfl rfl q541 rfl rfl rfl ?_
  exact j_iretX K hr dX1_insert_151
theorem sb_X1_insert_69 {G : Gx} (hG : GW G) {M : Mx} (hl : (mL M).stackTraces = false) {w0 : Wd} {d : Nat} (K : Cx (G, true, M, 5, w0) cX1_insert "IntervalTree" (d + 1)) (hr : (mH M).sig.returnType = some .int) (hnm : (mH M).name = yX1_insert.name) (hxt : ∀ x ∈ (mC M).exceptionTable.toList, False) (hnd : (mS M).methodNamed? yX1_insert = some (mM M)) : ∀ (w : Wd), Jf (G, true, M, 5, w0) (rrX G pI) (b_X1_insert_69 d w) w 69 [none, none, none, none, none] [] := by
  intro w
  refine j_dp (fun h88 => ?_)
  refine j_rm (fun hr9 => ?_)
  refine j_mkS (kd := 41) K rfl (by decide +kernel) (by decide +kernel) rfl q520 q100 q529 at_X1_41_1 at_X1_41_2 at_X1_41_3 rfl dX1_insert_69 dX1_insert_72 dX1_insert_73 dX1_insert_75 (Nat.le_succ_of_le h88) hr9 rfl ?_
  refine j_athrow K dX1_insert_78 ?_
  exact j_outN K hxt rfl
theorem sb_X1_insert_59 {G : Gx} (hG : GW G) {M : Mx} (hl : (mL M).stackTraces = false) {w0 : Wd} {d : Nat} (K : Cx (G, true, M, 5, w0) cX1_insert "IntervalTree" (d + 1)) (hr : (mH M).sig.returnType = some .int) (hnm : (mH M).name = yX1_insert.name) (hxt : ∀ x ∈ (mC M).exceptionTable.toList, False) (hnd : (mS M).methodNamed? yX1_insert = some (mM M)) : ∀ (x1 : Int32) (x2 : Int32) (x3 : Int32) (w : Wd) (fx1 : Bool) (fx2 : Bool) (fx3 : Bool), Jf (G, true, M, 5, w0) (rrX G pI) (b_X1_insert_59 d x1 x2 x3 w) w 59 [some (aR 1 (some 8)), some (aB fx1 x1), some (aB fx2 x2), some (aB fx3 x3), none] [] := by
  intro x1 x2 x3 w fx1 fx2 fx3
  refine j_aload_n K dX1_insert_59 rfl ?_
  refine j_getI (k := 5) K dX1_insert_60 rfl rfl rfl q186 rfl rfl rfl ?_
  refine j_sipush (x := 500) K dX1_insert_63 (by decide +kernel) ?_
  refine j_icmp_ne 79 K dX1_insert_66 (by decide) ?_ ?_
  · refine j_aload_n K dX1_insert_79 rfl ?_
    refine j_getI (k := 6) K dX1_insert_80 rfl rfl rfl q187 rfl rfl rfl ?_
    refine j_bipush (x := 100) K dX1_insert_83 (by decide +kernel) ?_
    refine j_icmp_ne 93 K dX1_insert_85 (by decide) ?_ ?_
    · exact j_wk (sb_X1_insert_93 hG hl K hr hnm hxt hnd _ _ _ _ _ _ _) ⟨rfl, rfl, rfl, rfl, trivial⟩
    · refine j_aload_n K dX1_insert_88 rfl ?_
      refine j_callV _ K (sim_X1_rebuildTree hG hl d w) dX1_insert_89 rfl rfl q293 q295 qs2 q93 q296 pm_X1_rebuildTree rfl rfl rfl rfl rfl (fun r3 _ => ?_)
      refine j_pop K dX1_insert_92 rfl ?_
      exact j_wk (sb_X1_insert_93 hG hl K hr hnm hxt hnd _ _ _ _ _ _ _) ⟨rfl, rfl, rfl, rfl, trivial⟩
  · exact j_wk (sb_X1_insert_69 hG hl K hr hnm hxt hnd _) trivial
theorem sb_X1_insert_40 {G : Gx} (hG : GW G) {M : Mx} (hl : (mL M).stackTraces = false) {w0 : Wd} {d : Nat} (K : Cx (G, true, M, 5, w0) cX1_insert "IntervalTree" (d + 1)) (hr : (mH M).sig.returnType = some .int) (hnm : (mH M).name = yX1_insert.name) (hxt : ∀ x ∈ (mC M).exceptionTable.toList, False) (hnd : (mS M).methodNamed? yX1_insert = some (mM M)) : ∀ (x1 : Int32) (x2 : Int32) (x3 : Int32) (s0 : Int32) (w : Wd) (fx1 : Bool) (fx2 : Bool) (fx3 : Bool), Jf (G, true, M, 5, w0) (rrX G pI) (b_X1_insert_40 d x1 x2 x3 s0 w) w 40 [some (aR 1 (some 8)), some (aB fx1 x1), some (aB fx2 x2), some (aB fx3 x3), none] [aB true s0] := by
  intro x1 x2 x3 s0 w fx1 fx2 fx3
  refine j_callSX _ K hxt (sim_X1_check hG hl d s0 w) dX1_insert_40 q447 q448 q93 q449 pm_X1_check.2 rfl rfl rfl rfl (fun wr2 r2 _ => ?_)
  refine j_aload_n K dX1_insert_43 rfl ?_
  refine j_getI (k := 6) K dX1_insert_44 rfl rfl rfl q187 rfl rfl rfl ?_
  refine j_bipush (x := 100) K dX1_insert_47 (by decide +kernel) ?_
  refine j_icmp_ne 59 K dX1_insert_49 (by decide) ?_ ?_
  · exact j_wk (sb_X1_insert_59 hG hl K hr hnm hxt hnd _ _ _ _ _ _ _) ⟨rfl, rfl, rfl, rfl, trivial⟩
  · refine j_aload_n K dX1_insert_52 rfl ?_
    refine j_getI (k := 7) K dX1_insert_53 rfl rfl rfl q188 rfl rfl rfl ?_
    refine j_if_eq 69 K dX1_insert_56 (by decide) ?_ ?_
    · exact j_wk (sb_X1_insert_69 hG hl K hr hnm hxt hnd _) trivial
    · exact j_wk (sb_X1_insert_59 hG hl K hr hnm hxt hnd _ _ _ _ _ _ _) ⟨rfl, rfl, rfl, rfl, trivial⟩
theorem sb_X1_insert_39 {G : Gx} (hG : GW G) {M : Mx} (hl : (mL M).stackTraces = false) {w0 : Wd} {d : Nat} (K : Cx (G, true, M, 5, w0) cX1_insert "IntervalTree" (d + 1)) (hr : (mH M).sig.returnType = some .int) (hnm : (mH M).name = yX1_insert.name) (hxt : ∀ x ∈ (mC M).exceptionTable.toList, False) (hnd : (mS M).methodNamed? yX1_insert = some (mM M)) : ∀ (x1 : Int32) (x2 : Int32) (x3 : Int32) (w : Wd) (fx1 : Bool) (fx2 : Bool) (fx3 : Bool), Jf (G, true, M, 5, w0) (rrX G pI) (b_X1_insert_39 d x1 x2 x3 w) w 39 [some (aR 1 (some 8)), some (aB fx1 x1), some (aB fx2 x2), some (aB fx3 x3), none] [] := by
  intro x1 x2 x3 w fx1 fx2 fx3
  refine j_iconstZ K dX1_insert_39 rfl (Or.inl rfl) ?_
  exact j_wk (sb_X1_insert_40 hG hl K hr hnm hxt hnd _ _ _ _ _ _ _ _) ⟨rfl, rfl, rfl, rfl, trivial⟩
theorem sim_X1_insert {G : Gx} (hG : GW G) {l : Launch} (hl : l.stackTraces = false) (d : Nat) (p1 : Int32) (p2 : Int32) (p3 : Int32) (w : Wd) (fp1 : Bool) (fp2 : Bool) (fp3 : Bool) : Mt G true l yX1_insert (ws_ yX1_insert cX1_insert 5 (some .int)) d (rrX G pI) [aR 1 (some 8), aB fp1 p1, aB fp2 p2, aB fp3 p3] w (f_X1_insert d p1 p2 p3 w) := by
  refine Mt.of (own := "IntervalTree") hG hl (by decide +kernel) rfl rfl ?_
  intro M hM hr hnm hxt hnd K
  subst hM
  cases d with
  | zero => exact j_none
  | succ d =>
    refine j_iload_n K dX1_insert_0 rfl ?_
    refine j_sipush (x := (-1000)) K dX1_insert_1 (by decide +kernel) ?_
    refine j_sipush (x := 1000) K dX1_insert_4 (by decide +kernel) ?_
    refine j_callS _ K (sim_X1_isBetween hG hl d p1 (-1000) 1000 w fp1 false false) dX1_insert_7 q444 q445 q93 q446 pm_X1_isBetween.2 rfl rfl rfl rfl (fun r1 _ => ?_)
    refine j_if_eq 39 K dX1_insert_10 (by decide) ?_ ?_
    · exact j_wk (sb_X1_insert_39 hG hl K hr hnm hxt hnd _ _ _ _ _ _ _) ⟨rfl, rfl, rfl, rfl, trivial⟩
    · refine j_iload_n K dX1_insert_13 rfl ?_
      refine j_iload_n K dX1_insert_14 rfl ?_
      refine j_sipush (x := 1000) K dX1_insert_15 (by decide +kernel) ?_
      refine j_callS _ K (sim_X1_isBetween hG hl d p2 p1 1000 r1.1 fp2 fp1 false) dX1_insert_18 q444 q445 q93 q446 pm_X1_isBetween.2 rfl rfl rfl rfl (fun r2 _ => ?_)
      refine j_if_eq 39 K dX1_insert_21 (by decide) ?_ ?_
      · exact j_wk (sb_X1_insert_39 hG hl K hr hnm hxt hnd _ _ _ _ _ _ _) ⟨rfl, rfl, rfl, rfl, trivial⟩
      · refine j_iload_n K dX1_insert_24 rfl ?_
        refine j_iconstZ K dX1_insert_25 rfl (Or.inl rfl) ?_
        refine j_sipush (x := 999) K dX1_insert_26 (by decide +kernel) ?_
        refine j_callS _ K (sim_X1_isBetween hG hl d p3 0 999 r2.1 fp3 true false) dX1_insert_29 q444 q445 q93 q446 pm_X1_isBetween.2 rfl rfl rfl rfl (fun r3 _ => ?_)
        refine j_if_eq 39 K dX1_insert_32 (by decide) ?_ ?_
        · exact j_wk (sb_X1_insert_39 hG hl K hr hnm hxt hnd _ _ _ _ _ _ _) ⟨rfl, rfl, rfl, rfl, trivial⟩
        · refine j_iconstZ K dX1_insert_35 rfl (Or.inr rfl) ?_
          refine j_goto 40 K dX1_insert_36 (by decide) ?_
          exact j_wk (sb_X1_insert_40 hG hl K hr hnm hxt hnd _ _ _ _ _ _ _ _) ⟨rfl, rfl, rfl, rfl, trivial⟩

theorem pm_X1_inTree : yX1_inTree.cls = RX1 ∧ yX1_inTree.cls ≠ "java/lang/invoke/MethodHandle" ∧ yX1_inTree.cls ≠ "java/lang/invoke/VarHandle" ∧ (parseMethodDescriptor yX1_inTree.desc).map (fun d => d.parameters.length) = some 1 := by decide +kernel
def b_X1_inTree_23 (d : Nat) (w : Wd) : Option (Wd × (Option Nat ⊕ Nat)) :=
  if 8 ≤ d then
    if room w 6 = true then
      some (nw w 42 0 6, .inr (gN w))
    else none
  else none
def f_X1_inTree (d : Nat) (p1 : Int32) (w : Wd) : Option (Wd × (Option Nat ⊕ Nat)) :=
  match d with
  | 0 => none
  | d + 1 =>
    (f_X1_isBetween d p1 0 ((gI w 8 5) - 1) w).bind fun r1 =>
    if r1.2 = 0 then
      b_X1_inTree_23 d r1.1
    else
      if ib p1 500 = true then
        (gR r1.1 9 p1.toNatClampNeg).elim
          (b_X1_inTree_23 d r1.1)
          fun a5 =>
          some (r1.1, .inl (gR r1.1 9 p1.toNatClampNeg))
      else none
theorem sb_X1_inTree_23 {G : Gx} (hG : GW G) {M : Mx} (hl : (mL M).stackTraces = false) {w0 : Wd} {d : Nat} (K : Cx (G, true, M, 2, w0) cX1_inTree "IntervalTree" (d + 1)) (hr : (mH M).sig.returnType = some (.object "IntervalTree$Node")) (hnm : (mH M).name = yX1_inTree.name) (hxt : ∀ x ∈ (mC M).exceptionTable.toList, False) (hnd : (mS M).methodNamed? yX1_inTree = some (mM M)) : ∀ (w : Wd), Jf (G, true, M, 2, w0) (rrX G (pR 4)) (b_X1_inTree_23 d w) w 23 [none, none] [] := by
  intro w
  refine j_dp (fun h82 => ?_)
  refine j_rm (fun hr3 => ?_)
  refine j_mkSN (kd := 42) K rfl (by decide +kernel) q643 q103 q652 at_X1_42_1 at_X1_42_2 at_X1_42_3 rfl dX1_inTree_23 dX1_inTree_26 dX1_inTree_27 dX1_inTree_29 (Nat.le_succ_of_le h82) hr3 rfl ?_
  refine j_athrow K dX1_inTree_32 ?_
  exact j_outN K hxt rfl
theorem sim_X1_inTree {G : Gx} (hG : GW G) {l : Launch} (hl : l.stackTraces = false) (d : Nat) (p1 : Int32) (w : Wd) (fp1 : Bool) : Mt G true l yX1_inTree (ws_ yX1_inTree cX1_inTree 2 (some (.object "IntervalTree$Node"))) d (rrX G (pR 4)) [aR 1 (some 8), aB fp1 p1] w (f_X1_inTree d p1 w) := by
  refine Mt.of (own := "IntervalTree") hG hl (by decide +kernel) rfl rfl ?_
  intro M hM hr hnm hxt hnd K
  subst hM
  cases d with
  | zero => exact j_none
  | succ d =>
    refine j_iload_n K dX1_inTree_0 rfl ?_
    refine j_iconstZ K dX1_inTree_1 rfl (Or.inl rfl) ?_
    refine j_aload_n K dX1_inTree_2 rfl ?_
    refine j_getI (k := 5) K dX1_inTree_3 rfl rfl rfl q186 rfl rfl rfl ?_
    refine j_iconstZ K dX1_inTree_6 rfl (Or.inr rfl) ?_
    refine j_isub K dX1_inTree_7 ?_
    refine j_callS _ K (sim_X1_isBetween hG hl d p1 0 ((gI w 8 5) - 1) w fp1 true false) dX1_inTree_8 q444 q445 q93 q446 pm_X1_isBetween.2 rfl rfl rfl rfl (fun r1 _ => ?_)
    refine j_if_eq 23 K dX1_inTree_11 (by decide) ?_ ?_
    · exact j_wk (sb_X1_inTree_23 hG hl K hr hnm hxt hnd _) trivial
    · refine j_aload_n K dX1_inTree_14 rfl ?_
      refine j_getA (k := 0) 0 K dX1_inTree_15 rfl rfl rfl q179 rfl rfl (by decide) rfl rfl rfl ?_
      refine j_iload_n K dX1_inTree_18 rfl ?_
      refine j_ib (fun hi4 => ?_)
      refine j_aal K dX1_inTree_19 rfl (fun _ => rfl) (by decide) rfl rfl (fxLen 0 rfl rfl) hi4 ?_
      refine j_ifnonnull 33 K dX1_inTree_20 (by decide) (fun a5 ha5 => ?_) (fun _ => ?_)
      · refine j_aload_n K dX1_inTree_33 rfl ?_
        refine j_getA (k := 0) 0 K dX1_inTree_34 rfl rfl rfl q179 rfl rfl (by decide) rfl rfl rfl ?_
        refine j_iload_n K dX1_inTree_37 rfl ?_
        refine j_aal K dX1_inTree_38 rfl (fun _ => rfl) (by decide) rfl rfl (fxLen 0 rfl rfl) hi4 ?_
        exact j_aretX K hr (Or.inl ⟨_, rfl⟩) dX1_inTree_39
      · exact j_wk (sb_X1_inTree_23 hG hl K hr hnm hxt hnd _) trivial

theorem pm_X1_liveNode : yX1_liveNode.cls = RX1 ∧ yX1_liveNode.cls ≠ "java/lang/invoke/MethodHandle" ∧ yX1_liveNode.cls ≠ "java/lang/invoke/VarHandle" ∧ (parseMethodDescriptor yX1_liveNode.desc).map (fun d => d.parameters.length) = some 1 := by decide +kernel
def f_X1_liveNode (d : Nat) (p1 : Int32) (w : Wd) : Option (Wd × (Option Nat ⊕ Nat)) :=
  match d with
  | 0 => none
  | d + 1 =>
    bX (f_X1_inTree d p1 w) fun wr1 r1 =>
    (r1).bind fun a2 =>
    if (gI wr1 a2 6) = 0 then
      some (wr1, .inl r1)
    else
      if 8 ≤ d then
        if room wr1 6 = true then
          some (nw wr1 42 0 6, .inr (gN wr1))
        else none
      else none
theorem sim_X1_liveNode {G : Gx} (hG : GW G) {l : Launch} (hl : l.stackTraces = false) (d : Nat) (p1 : Int32) (w : Wd) (fp1 : Bool) : Mt G true l yX1_liveNode (ws_ yX1_liveNode cX1_liveNode 3 (some (.object "IntervalTree$Node"))) d (rrX G (pR 4)) [aR 1 (some 8), aB fp1 p1] w (f_X1_liveNode d p1 w) := by
  refine Mt.of (own := "IntervalTree") hG hl (by decide +kernel) rfl rfl ?_
  intro M hM hr hnm hxt hnd K
  subst hM
  cases d with
  | zero => exact j_none
  | succ d =>
    refine j_aload_n K dX1_liveNode_0 rfl ?_
    refine j_iload_n K dX1_liveNode_1 rfl ?_
    refine j_callVX _ K hxt (sim_X1_inTree hG hl d p1 w fp1) dX1_liveNode_2 rfl rfl q639 q641 qs20 q93 q642 pm_X1_inTree rfl rfl rfl rfl rfl (fun wr1 r1 _ => ?_)
    refine j_astore_n K dX1_liveNode_5 rfl rfl ?_
    refine j_aload_n K dX1_liveNode_6 rfl ?_
    refine j_nn (fun a2 ha2 => ?_)
    refine j_getZ (k := 6) K dX1_liveNode_7 rfl rfl rfl q552 rfl rfl rfl ha2 ?_
    refine j_if_eq 23 K dX1_liveNode_10 (by decide) ?_ ?_
    · refine j_aload_n K dX1_liveNode_23 rfl ?_
      exact j_aretX K hr (Or.inl ⟨_, rfl⟩) dX1_liveNode_24
    · refine j_dp (fun h83 => ?_)
      refine j_rm (fun hr4 => ?_)
      refine j_mkSN (kd := 42) K rfl (by decide +kernel) q643 q103 q659 at_X1_42_1 at_X1_42_2 at_X1_42_3 rfl dX1_liveNode_13 dX1_liveNode_16 dX1_liveNode_17 dX1_liveNode_19 (Nat.le_succ_of_le h83) hr4 rfl ?_
      refine j_athrow K dX1_liveNode_22 ?_
      exact j_outN K hxt rfl

theorem pm_X1_pushPath : yX1_pushPath.cls = RX1 ∧ yX1_pushPath.cls ≠ "java/lang/invoke/MethodHandle" ∧ yX1_pushPath.cls ≠ "java/lang/invoke/VarHandle" ∧ (parseMethodDescriptor yX1_pushPath.desc).map (fun d => d.parameters.length) = some 1 := by decide +kernel
def b_X1_pushPath_15 (d : Nat) (g_X1_pushPath : Option Nat → Wd → Option (Wd × Unit)) (x1 : Option Nat) (w : Wd) : Option (Wd × Unit) :=
  (x1).bind fun a2 =>
  (f_X4_push d a2 w).bind fun r3 =>
  some (r3.1, ())
def fB_X1_pushPath (d : Nat) (g_X1_pushPath : Option Nat → Wd → Option (Wd × Unit)) (p1 : Option Nat) (w : Wd) : Option (Wd × Unit) :=
  (p1).bind fun a1 =>
  (gR w a1 7).elim
    (b_X1_pushPath_15 d g_X1_pushPath p1 w)
    fun a4 =>
    (g_X1_pushPath (gR w a1 7) w).bind fun r5 =>
    b_X1_pushPath_15 d g_X1_pushPath p1 r5.1
theorem sb_X1_pushPath_15 {G : Gx} (hG : GW G) {M : Mx} (hl : (mL M).stackTraces = false) {w0 : Wd} {d : Nat} (K : Cx (G, true, M, 2, w0) cX1_pushPath "IntervalTree" (d + 1)) (hr : (mH M).sig.returnType = none) (hnm : (mH M).name = yX1_pushPath.name) (hxt : ∀ x ∈ (mC M).exceptionTable.toList, False) (hnd : (mS M).methodNamed? yX1_pushPath = some (mM M)) {g_X1_pushPath : Option Nat → Wd → Option (Wd × Unit)} (hg_X1_pushPath : ∀ (p1 : Option Nat) (w : Wd), Mt G true (mL M) yX1_pushPath (ws_ yX1_pushPath cX1_pushPath 2 (none)) d (rrV G pU) [aR 1 (some 8), aR 4 p1] w (g_X1_pushPath p1 w)) : ∀ (x1 : Option Nat) (w : Wd), Jf (G, true, M, 2, w0) (rrV G pU) (b_X1_pushPath_15 d g_X1_pushPath x1 w) w 15 [none, some (aR 4 x1)] [] := by
  intro x1 w
  refine j_aload_n K dX1_pushPath_15 rfl ?_
  refine j_nn (fun a2 ha2 => ?_)
  refine j_callV _ K (sim_X4_push hG hl d a2 w) dX1_pushPath_16 rfl rfl q312 q313 q314 q102 q315 pm_X4_push rfl rfl rfl ha2 rfl (fun r3 _ => ?_)
  exact j_vret K hr dX1_pushPath_19
theorem simB_X1_pushPath {G : Gx} (hG : GW G) {l : Launch} (hl : l.stackTraces = false) (d : Nat) {g_X1_pushPath : Option Nat → Wd → Option (Wd × Unit)} (hg_X1_pushPath : ∀ (p1 : Option Nat) (w : Wd), Mt G true l yX1_pushPath (ws_ yX1_pushPath cX1_pushPath 2 (none)) d (rrV G pU) [aR 1 (some 8), aR 4 p1] w (g_X1_pushPath p1 w)) (p1 : Option Nat) (w : Wd) : Mt G true l yX1_pushPath (ws_ yX1_pushPath cX1_pushPath 2 (none)) (d + 1) (rrV G pU) [aR 1 (some 8), aR 4 p1] w (fB_X1_pushPath d g_X1_pushPath p1 w) := by
  refine Mt.of (own := "IntervalTree") hG hl (by decide +kernel) rfl rfl ?_
  intro M hM hr hnm hxt hnd K
  subst hM
  refine j_aload_n K dX1_pushPath_0 rfl ?_
  refine j_nn (fun a1 ha1 => ?_)
  refine j_getR (k := 7) K dX1_pushPath_1 rfl rfl rfl q553 rfl rfl (by decide) ha1 ?_
  refine j_ifnull 15 K dX1_pushPath_4 (by decide) (fun _ => ?_) (fun a4 ha4 => ?_)
  · exact j_wk (sb_X1_pushPath_15 hG hl K hr hnm hxt hnd hg_X1_pushPath _ _) ⟨rfl, trivial⟩
  · refine j_aload_n K dX1_pushPath_7 rfl ?_
    refine j_aload_n K dX1_pushPath_8 rfl ?_
    refine j_getR (k := 7) K dX1_pushPath_9 rfl rfl rfl q553 rfl rfl (by decide) ha1 ?_
    refine j_callV _ K (hg_X1_pushPath (gR w a1 7) w) dX1_pushPath_12 rfl rfl q668 q670 qs23 q93 q671 pm_X1_pushPath rfl rfl rfl rfl rfl (fun r5 _ => ?_)
    exact j_wk (sb_X1_pushPath_15 hG hl K hr hnm hxt hnd hg_X1_pushPath _ _) ⟨rfl, trivial⟩
def f_X1_pushPath : Nat → Option Nat → Wd → Option (Wd × Unit)
  | 0 => fun _ _ => none
  | d + 1 => fB_X1_pushPath d (f_X1_pushPath d)
theorem sim_X1_pushPath {G : Gx} (hG : GW G) {l : Launch} (hl : l.stackTraces = false) : ∀ (d : Nat) (p1 : Option Nat) (w : Wd), Mt G true l yX1_pushPath (ws_ yX1_pushPath cX1_pushPath 2 (none)) d (rrV G pU) [aR 1 (some 8), aR 4 p1] w (f_X1_pushPath d p1 w) := by
  intro d
  induction d with
  | zero => intros; exact fun _ h => by cases h
  | succ d ih => exact simB_X1_pushPath hG hl d ih

theorem pm_X1_setRemoved : yX1_setRemoved.cls = RX1 ∧ yX1_setRemoved.cls ≠ "java/lang/invoke/MethodHandle" ∧ yX1_setRemoved.cls ≠ "java/lang/invoke/VarHandle" ∧ (parseMethodDescriptor yX1_setRemoved.desc).map (fun d => d.parameters.length) = some 2 := by decide +kernel
def b_X1_setRemoved_24 (d : Nat) (x1 : Option Nat) (s1 : Int32) (s2 : Int32) (w : Wd) : Option (Wd × Unit) :=
  (f_X1_pullPath d x1 (sI w 8 7 (s1 + s2))).bind fun r3 =>
  some (r3.1, ())
def f_X1_setRemoved (d : Nat) (p1 : Option Nat) (p2 : Int32) (w : Wd) : Option (Wd × Unit) :=
  match d with
  | 0 => none
  | d + 1 =>
    (f_X1_pushPath d p1 w).bind fun r1 =>
    (p1).bind fun a2 =>
    if p2 = 0 then
      b_X1_setRemoved_24 d p1 (gI (sI r1.1 a2 6 p2) 8 7) (-1) (sI r1.1 a2 6 p2)
    else
      b_X1_setRemoved_24 d p1 (gI (sI r1.1 a2 6 p2) 8 7) 1 (sI r1.1 a2 6 p2)
theorem sb_X1_setRemoved_24 {G : Gx} (hG : GW G) {M : Mx} (hl : (mL M).stackTraces = false) {w0 : Wd} {d : Nat} (K : Cx (G, true, M, 3, w0) cX1_setRemoved "IntervalTree" (d + 1)) (hr : (mH M).sig.returnType = none) (hnm : (mH M).name = yX1_setRemoved.name) (hxt : ∀ x ∈ (mC M).exceptionTable.toList, False) (hnd : (mS M).methodNamed? yX1_setRemoved = some (mM M)) : ∀ (x1 : Option Nat) (s1 : Int32) (s2 : Int32) (w : Wd) (fs1 : Bool) (fs2 : Bool), Jf (G, true, M, 3, w0) (rrV G pU) (b_X1_setRemoved_24 d x1 s1 s2 w) w 24 [some (aR 1 (some 8)), some (aR 4 x1), none] [aB fs2 s2, aB fs1 s1, aR 1 (some 8)] := by
  intro x1 s1 s2 w fs1 fs2
  refine j_iadd K dX1_setRemoved_24 ?_
  refine j_putI (k := 7) K dX1_setRemoved_25 rfl rfl q188 rfl (Or.inl rfl) rfl rfl rfl rfl ?_
  refine j_aload_n K dX1_setRemoved_28 rfl ?_
  refine j_aload_n K dX1_setRemoved_29 rfl ?_
  refine j_callV _ K (sim_X1_pullPath hG hl d x1 (sI w 8 7 (s1 + s2))) dX1_setRemoved_30 rfl rfl q608 q610 qs15 q93 q611 pm_X1_pullPath rfl rfl rfl rfl rfl (fun r3 _ => ?_)
  exact j_vret K hr dX1_setRemoved_33
theorem sim_X1_setRemoved {G : Gx} (hG : GW G) {l : Launch} (hl : l.stackTraces = false) (d : Nat) (p1 : Option Nat) (p2 : Int32) (w : Wd) : Mt G true l yX1_setRemoved (ws_ yX1_setRemoved cX1_setRemoved 3 (none)) d (rrV G pU) [aR 1 (some 8), aR 4 p1, aZ p2] w (f_X1_setRemoved d p1 p2 w) := by
  refine Mt.of (own := "IntervalTree") hG hl (by decide +kernel) rfl rfl ?_
  intro M hM hr hnm hxt hnd K
  subst hM
  cases d with
  | zero => exact j_none
  | succ d =>
    refine j_aload_n K dX1_setRemoved_0 rfl ?_
    refine j_aload_n K dX1_setRemoved_1 rfl ?_
    refine j_callV _ K (sim_X1_pushPath hG hl d p1 w) dX1_setRemoved_2 rfl rfl q668 q670 qs23 q93 q671 pm_X1_pushPath rfl rfl rfl rfl rfl (fun r1 _ => ?_)
    refine j_aload_n K dX1_setRemoved_5 rfl ?_
    refine j_iload_n K dX1_setRemoved_6 rfl ?_
    refine j_nn (fun a2 ha2 => ?_)
    refine j_putZ (k := 6) K dX1_setRemoved_7 rfl rfl q552 rfl (Or.inl rfl) rfl rfl ha2 ?_
    refine j_aload_n K dX1_setRemoved_10 rfl ?_
    refine j_dup K dX1_setRemoved_11 rfl ?_
    refine j_getI (k := 7) K dX1_setRemoved_12 rfl rfl rfl q188 rfl rfl rfl ?_
    refine j_iload_n K dX1_setRemoved_15 rfl ?_
    refine j_if_eq 23 K dX1_setRemoved_16 (by decide) ?_ ?_
    · refine j_iconst (x := (-1)) K dX1_setRemoved_23 rfl ?_
      exact j_wk (sb_X1_setRemoved_24 hG hl K hr hnm hxt hnd _ _ _ _ _ _) ⟨rfl, rfl, trivial⟩
    · refine j_iconstZ K dX1_setRemoved_19 rfl (Or.inr rfl) ?_
      refine j_goto 24 K dX1_setRemoved_20 (by decide) ?_
      exact j_wk (sb_X1_setRemoved_24 hG hl K hr hnm hxt hnd _ _ _ _ _ _) ⟨rfl, rfl, trivial⟩

theorem pm_X1_removeNode : yX1_removeNode.cls = RX1 ∧ yX1_removeNode.cls ≠ "java/lang/invoke/MethodHandle" ∧ yX1_removeNode.cls ≠ "java/lang/invoke/VarHandle" ∧ (parseMethodDescriptor yX1_removeNode.desc).map (fun d => d.parameters.length) = some 1 := by decide +kernel
def b_X1_removeNode_30 (d : Nat) (w : Wd) : Option (Wd × Int32) :=
  some (w, ((gI w 8 6) - (gI w 8 7)))
def f_X1_removeNode (d : Nat) (p1 : Option Nat) (w : Wd) : Option (Wd × Int32) :=
  match d with
  | 0 => none
  | d + 1 =>
    (f_X1_setRemoved d p1 1 w).bind fun r1 =>
    if (100 * (gI r1.1 8 7)) ≤ ((gI r1.1 8 8) * (gI r1.1 8 6)) then
      b_X1_removeNode_30 d r1.1
    else
      (f_X1_rebuildTree d r1.1).bind fun r2 =>
      b_X1_removeNode_30 d r2.1
theorem sb_X1_removeNode_30 {G : Gx} (hG : GW G) {M : Mx} (hl : (mL M).stackTraces = false) {w0 : Wd} {d : Nat} (K : Cx (G, true, M, 2, w0) cX1_removeNode "IntervalTree" (d + 1)) (hr : (mH M).sig.returnType = some .int) (hnm : (mH M).name = yX1_removeNode.name) (hxt : ∀ x ∈ (mC M).exceptionTable.toList, False) (hnd : (mS M).methodNamed? yX1_removeNode = some (mM M)) : ∀ (w : Wd), Jf (G, true, M, 2, w0) (rrV G pI) (b_X1_removeNode_30 d w) w 30 [some (aR 1 (some 8)), none] [] := by
  intro w
  refine j_aload_n K dX1_removeNode_30 rfl ?_
  refine j_getI (k := 6) K dX1_removeNode_31 rfl rfl rfl q187 rfl rfl rfl ?_
  refine j_aload_n K dX1_removeNode_34 rfl ?_
  refine j_getI (k := 7) K dX1_removeNode_35 rfl rfl rfl q188 rfl rfl rfl ?_
  refine j_isub K dX1_removeNode_38 ?_
  exact j_iret K hr dX1_removeNode_39
theorem sim_X1_removeNode {G : Gx} (hG : GW G) {l : Launch} (hl : l.stackTraces = false) (d : Nat) (p1 : Option Nat) (w : Wd) : Mt G true l yX1_removeNode (ws_ yX1_removeNode cX1_removeNode 2 (some .int)) d (rrV G pI) [aR 1 (some 8), aR 4 p1] w (f_X1_removeNode d p1 w) := by
  refine Mt.of (own := "IntervalTree") hG hl (by decide +kernel) rfl rfl ?_
  intro M hM hr hnm hxt hnd K
  subst hM
  cases d with
  | zero => exact j_none
  | succ d =>
    refine j_aload_n K dX1_removeNode_0 rfl ?_
    refine j_aload_n K dX1_removeNode_1 rfl ?_
    refine j_iconstZ K dX1_removeNode_2 rfl (Or.inr rfl) ?_
    refine j_callV _ K (sim_X1_setRemoved hG hl d p1 1 w) dX1_removeNode_3 rfl rfl q664 q666 qs22 q93 q667 pm_X1_setRemoved rfl rfl rfl rfl rfl (fun r1 _ => ?_)
    refine j_bipush (x := 100) K dX1_removeNode_6 (by decide +kernel) ?_
    refine j_aload_n K dX1_removeNode_8 rfl ?_
    refine j_getI (k := 7) K dX1_removeNode_9 rfl rfl rfl q188 rfl rfl rfl ?_
    refine j_imul K dX1_removeNode_12 ?_
    refine j_aload_n K dX1_removeNode_13 rfl ?_
    refine j_getI (k := 8) K dX1_removeNode_14 rfl rfl rfl q189 rfl rfl rfl ?_
    refine j_aload_n K dX1_removeNode_17 rfl ?_
    refine j_getI (k := 6) K dX1_removeNode_18 rfl rfl rfl q187 rfl rfl rfl ?_
    refine j_imul K dX1_removeNode_21 ?_
    refine j_icmp_le 30 K dX1_removeNode_22 (by decide) ?_ ?_
    · exact j_wk (sb_X1_removeNode_30 hG hl K hr hnm hxt hnd _) ⟨rfl, trivial⟩
    · refine j_aload_n K dX1_removeNode_25 rfl ?_
      refine j_callV _ K (sim_X1_rebuildTree hG hl d r1.1) dX1_removeNode_26 rfl rfl q293 q295 qs2 q93 q296 pm_X1_rebuildTree rfl rfl rfl rfl rfl (fun r2 _ => ?_)
      refine j_pop K dX1_removeNode_29 rfl ?_
      exact j_wk (sb_X1_removeNode_30 hG hl K hr hnm hxt hnd _) ⟨rfl, trivial⟩

theorem pm_X1_remove : yX1_remove.cls = RX1 ∧ yX1_remove.cls ≠ "java/lang/invoke/MethodHandle" ∧ yX1_remove.cls ≠ "java/lang/invoke/VarHandle" ∧ (parseMethodDescriptor yX1_remove.desc).map (fun d => d.parameters.length) = some 1 := by decide +kernel
def f_X1_remove (d : Nat) (p1 : Int32) (w : Wd) : Option (Wd × (Int32 ⊕ Nat)) :=
  match d with
  | 0 => none
  | d + 1 =>
    bX (f_X1_liveNode d p1 w) fun wr1 r1 =>
    (f_X1_removeNode d r1 wr1).bind fun r2 =>
    some (r2.1, .inl r2.2)
theorem sim_X1_remove {G : Gx} (hG : GW G) {l : Launch} (hl : l.stackTraces = false) (d : Nat) (p1 : Int32) (w : Wd) (fp1 : Bool) : Mt G true l yX1_remove (ws_ yX1_remove cX1_remove 2 (some .int)) d (rrX G pI) [aR 1 (some 8), aB fp1 p1] w (f_X1_remove d p1 w) := by
  refine Mt.of (own := "IntervalTree") hG hl (by decide +kernel) rfl rfl ?_
  intro M hM hr hnm hxt hnd K
  subst hM
  cases d with
  | zero => exact j_none
  | succ d =>
    refine j_aload_n K dX1_remove_0 rfl ?_
    refine j_aload_n K dX1_remove_1 rfl ?_
    refine j_iload_n K dX1_remove_2 rfl ?_
    refine j_callVX _ K hxt (sim_X1_liveNode hG hl d p1 w fp1) dX1_remove_3 rfl rfl q635 q637 qs19 q93 q638 pm_X1_liveNode rfl rfl rfl rfl rfl (fun wr1 r1 _ => ?_)
    refine j_callV _ K (sim_X1_removeNode hG hl d r1 wr1) dX1_remove_6 rfl rfl q660 q662 qs21 q93 q663 pm_X1_removeNode rfl rfl rfl rfl rfl (fun r2 _ => ?_)
    exact j_iretX K hr dX1_remove_9

theorem pm_X1_restore : yX1_restore.cls = RX1 ∧ yX1_restore.cls ≠ "java/lang/invoke/MethodHandle" ∧ yX1_restore.cls ≠ "java/lang/invoke/VarHandle" ∧ (parseMethodDescriptor yX1_restore.desc).map (fun d => d.parameters.length) = some 1 := by decide +kernel
def b_X1_restore_42 (d : Nat) (w : Wd) : Option (Wd × (Int32 ⊕ Nat)) :=
  if 8 ≤ d then
    if room w 6 = true then
      some (nw w 41 0 6, .inr (gN w))
    else none
  else none
def f_X1_restore (d : Nat) (p1 : Int32) (w : Wd) : Option (Wd × (Int32 ⊕ Nat)) :=
  match d with
  | 0 => none
  | d + 1 =>
    (f_X1_isBetween d p1 0 ((gI w 8 5) - 1) w).bind fun r1 =>
    if r1.2 = 0 then
      if 8 ≤ d then
        if room r1.1 6 = true then
          some (nw r1.1 42 0 6, .inr (gN r1.1))
        else none
      else none
    else
      if ib p1 500 = true then
        (gR r1.1 9 p1.toNatClampNeg).elim
          (b_X1_restore_42 d r1.1)
          fun a5 =>
          if (gI r1.1 a5 6) = 0 then
            b_X1_restore_42 d r1.1
          else
            (f_X1_setRemoved d (gR r1.1 9 p1.toNatClampNeg) 0 r1.1).bind fun r6 =>
            some (r6.1, .inl ((gI r6.1 8 6) - (gI r6.1 8 7)))
      else none
theorem sb_X1_restore_42 {G : Gx} (hG : GW G) {M : Mx} (hl : (mL M).stackTraces = false) {w0 : Wd} {d : Nat} (K : Cx (G, true, M, 3, w0) cX1_restore "IntervalTree" (d + 1)) (hr : (mH M).sig.returnType = some .int) (hnm : (mH M).name = yX1_restore.name) (hxt : ∀ x ∈ (mC M).exceptionTable.toList, False) (hnd : (mS M).methodNamed? yX1_restore = some (mM M)) : ∀ (w : Wd), Jf (G, true, M, 3, w0) (rrX G pI) (b_X1_restore_42 d w) w 42 [none, none, none] [] := by
  intro w
  refine j_dp (fun h83 => ?_)
  refine j_rm (fun hr4 => ?_)
  refine j_mkS (kd := 41) K rfl (by decide +kernel) (by decide +kernel) rfl q520 q100 q680 at_X1_41_1 at_X1_41_2 at_X1_41_3 rfl dX1_restore_42 dX1_restore_45 dX1_restore_46 dX1_restore_48 (Nat.le_succ_of_le h83) hr4 rfl ?_
  refine j_athrow K dX1_restore_51 ?_
  exact j_outN K hxt rfl
theorem sim_X1_restore {G : Gx} (hG : GW G) {l : Launch} (hl : l.stackTraces = false) (d : Nat) (p1 : Int32) (w : Wd) (fp1 : Bool) : Mt G true l yX1_restore (ws_ yX1_restore cX1_restore 3 (some .int)) d (rrX G pI) [aR 1 (some 8), aB fp1 p1] w (f_X1_restore d p1 w) := by
  refine Mt.of (own := "IntervalTree") hG hl (by decide +kernel) rfl rfl ?_
  intro M hM hr hnm hxt hnd K
  subst hM
  cases d with
  | zero => exact j_none
  | succ d =>
    refine j_iload_n K dX1_restore_0 rfl ?_
    refine j_iconstZ K dX1_restore_1 rfl (Or.inl rfl) ?_
    refine j_aload_n K dX1_restore_2 rfl ?_
    refine j_getI (k := 5) K dX1_restore_3 rfl rfl rfl q186 rfl rfl rfl ?_
    refine j_iconstZ K dX1_restore_6 rfl (Or.inr rfl) ?_
    refine j_isub K dX1_restore_7 ?_
    refine j_callS _ K (sim_X1_isBetween hG hl d p1 0 ((gI w 8 5) - 1) w fp1 true false) dX1_restore_8 q444 q445 q93 q446 pm_X1_isBetween.2 rfl rfl rfl rfl (fun r1 _ => ?_)
    refine j_if_ne 24 K dX1_restore_11 (by decide) ?_ ?_
    · refine j_aload_n K dX1_restore_24 rfl ?_
      refine j_getA (k := 0) 0 K dX1_restore_25 rfl rfl rfl q179 rfl rfl (by decide) rfl rfl rfl ?_
      refine j_iload_n K dX1_restore_28 rfl ?_
      refine j_ib (fun hi2 => ?_)
      refine j_aal K dX1_restore_29 rfl (fun _ => rfl) (by decide) rfl rfl (fxLen 0 rfl rfl) hi2 ?_
      refine j_astore_n K dX1_restore_30 rfl rfl ?_
      refine j_aload_n K dX1_restore_31 rfl ?_
      refine j_ifnull 42 K dX1_restore_32 (by decide) (fun _ => ?_) (fun a5 ha5 => ?_)
      · exact j_wk (sb_X1_restore_42 hG hl K hr hnm hxt hnd _) trivial
      · refine j_aload_n K dX1_restore_35 rfl ?_
        refine j_getZ (k := 6) K dX1_restore_36 rfl rfl rfl q552 rfl rfl rfl ha5 ?_
        refine j_if_ne 52 K dX1_restore_39 (by decide) ?_ ?_
        · refine j_aload_n K dX1_restore_52 rfl ?_
          refine j_aload_n K dX1_restore_53 rfl ?_
          refine j_iconstZ K dX1_restore_54 rfl (Or.inl rfl) ?_
          refine j_callV _ K (sim_X1_setRemoved hG hl d (gR r1.1 9 p1.toNatClampNeg) 0 r1.1) dX1_restore_55 rfl rfl q664 q666 qs22 q93 q667 pm_X1_setRemoved rfl rfl rfl rfl rfl (fun r6 _ => ?_)
          refine j_aload_n K dX1_restore_58 rfl ?_
          refine j_getI (k := 6) K dX1_restore_59 rfl rfl rfl q187 rfl rfl rfl ?_
          refine j_aload_n K dX1_restore_62 rfl ?_
          refine j_getI (k := 7) K dX1_restore_63 rfl rfl rfl q188 rfl rfl rfl ?_
          refine j_isub K dX1_restore_66 ?_
          exact j_iretX K hr dX1_restore_67
        · exact j_wk (sb_X1_restore_42 hG hl K hr hnm hxt hnd _) trivial
    · refine j_dp (fun h87 => ?_)
      refine j_rm (fun hr8 => ?_)
      refine j_mkSN (kd := 42) K rfl (by decide +kernel) q643 q103 q679 at_X1_42_1 at_X1_42_2 at_X1_42_3 rfl dX1_restore_14 dX1_restore_17 dX1_restore_18 dX1_restore_20 (Nat.le_succ_of_le h87) hr8 rfl ?_
      refine j_athrow K dX1_restore_23 ?_
      exact j_outN K hxt rfl

theorem pm_X1_setRebuildPercentage : yX1_setRebuildPercentage.cls = RX1 ∧ yX1_setRebuildPercentage.cls ≠ "java/lang/invoke/MethodHandle" ∧ yX1_setRebuildPercentage.cls ≠ "java/lang/invoke/VarHandle" ∧ (parseMethodDescriptor yX1_setRebuildPercentage.desc).map (fun d => d.parameters.length) = some 1 := by decide +kernel
def f_X1_setRebuildPercentage (d : Nat) (p1 : Int32) (w : Wd) : Option (Wd × (Int32 ⊕ Nat)) :=
  match d with
  | 0 => none
  | d + 1 =>
    (f_X1_isBetween d p1 10 100 w).bind fun r1 =>
    bX (f_X1_check d r1.2 r1.1) fun wr2 r2 =>
    some (sI wr2 8 8 p1, .inl (gI wr2 8 8))
theorem sim_X1_setRebuildPercentage {G : Gx} (hG : GW G) {l : Launch} (hl : l.stackTraces = false) (d : Nat) (p1 : Int32) (w : Wd) (fp1 : Bool) : Mt G true l yX1_setRebuildPercentage (ws_ yX1_setRebuildPercentage cX1_setRebuildPercentage 3 (some .int)) d (rrX G pI) [aR 1 (some 8), aB fp1 p1] w (f_X1_setRebuildPercentage d p1 w) := by
  refine Mt.of (own := "IntervalTree") hG hl (by decide +kernel) rfl rfl ?_
  intro M hM hr hnm hxt hnd K
  subst hM
  cases d with
  | zero => exact j_none
  | succ d =>
    refine j_iload_n K dX1_setRebuildPercentage_0 rfl ?_
    refine j_bipush (x := 10) K dX1_setRebuildPercentage_1 (by decide +kernel) ?_
    refine j_bipush (x := 100) K dX1_setRebuildPercentage_3 (by decide +kernel) ?_
    refine j_callS _ K (sim_X1_isBetween hG hl d p1 10 100 w fp1 false false) dX1_setRebuildPercentage_5 q444 q445 q93 q446 pm_X1_isBetween.2 rfl rfl rfl rfl (fun r1 _ => ?_)
    refine j_callSX _ K hxt (sim_X1_check hG hl d r1.2 r1.1) dX1_setRebuildPercentage_8 q447 q448 q93 q449 pm_X1_check.2 rfl rfl rfl rfl (fun wr2 r2 _ => ?_)
    refine j_aload_n K dX1_setRebuildPercentage_11 rfl ?_
    refine j_getI (k := 8) K dX1_setRebuildPercentage_12 rfl rfl rfl q189 rfl rfl rfl ?_
    refine j_istore_n K dX1_setRebuildPercentage_15 rfl rfl ?_
    refine j_aload_n K dX1_setRebuildPercentage_16 rfl ?_
    refine j_iload_n K dX1_setRebuildPercentage_17 rfl ?_
    refine j_putI (k := 8) K dX1_setRebuildPercentage_18 rfl rfl q189 rfl (Or.inl rfl) rfl rfl rfl rfl ?_
    refine j_iload_n K dX1_setRebuildPercentage_21 rfl ?_
    exact j_iretX K hr dX1_setRebuildPercentage_22

theorem pm_X1_addInRange : yX1_addInRange.cls = RX1 ∧ yX1_addInRange.cls ≠ "java/lang/invoke/MethodHandle" ∧ yX1_addInRange.cls ≠ "java/lang/invoke/VarHandle" ∧ (parseMethodDescriptor yX1_addInRange.desc).map (fun d => d.parameters.length) = some 4 := by decide +kernel
def b_X1_addInRange_71 (d : Nat) (g_X1_addInRange : Option Nat → Int32 → Int32 → Int32 → Wd → Option (Wd × Unit)) (x1 : Option Nat) (x2 : Int32) (x3 : Int32) (x4 : Int32) (w : Wd) : Option (Wd × Unit) :=
  (x1).bind fun a5 =>
  (g_X1_addInRange (gR w a5 8) x2 x3 x4 w).bind fun r6 =>
  (g_X1_addInRange (gR r6.1 a5 9) x2 x3 x4 r6.1).bind fun r7 =>
  (f_X4_pull d a5 r7.1).bind fun r8 =>
  some (r8.1, ())
def b_X1_addInRange_44 (d : Nat) (g_X1_addInRange : Option Nat → Int32 → Int32 → Int32 → Wd → Option (Wd × Unit)) (x1 : Option Nat) (x2 : Int32) (x3 : Int32) (x4 : Int32) (w : Wd) : Option (Wd × Unit) :=
  (x1).bind fun a2 =>
  (f_X4_push d a2 w).bind fun r3 =>
  (f_X1_isBetween d (gI r3.1 a2 1) x2 x3 r3.1).bind fun r4 =>
  if r4.2 = 0 then
    b_X1_addInRange_71 d g_X1_addInRange x1 x2 x3 x4 r4.1
  else
    b_X1_addInRange_71 d g_X1_addInRange x1 x2 x3 x4 (sI r4.1 a2 3 ((gI r4.1 a2 3) + x4))
def fB_X1_addInRange (d : Nat) (g_X1_addInRange : Option Nat → Int32 → Int32 → Int32 → Wd → Option (Wd × Unit)) (p1 : Option Nat) (p2 : Int32) (p3 : Int32) (p4 : Int32) (w : Wd) : Option (Wd × Unit) :=
  (p1).elim
    (some (w, ()))
    fun a1 =>
    if (gI w a1 14) < p2 then
      some (w, ())
    else
      if (gI w a1 13) ≤ p3 then
        if (gI w a1 13) < p2 then
          b_X1_addInRange_44 d g_X1_addInRange p1 p2 p3 p4 w
        else
          if p3 < (gI w a1 14) then
            b_X1_addInRange_44 d g_X1_addInRange p1 p2 p3 p4 w
          else
            (f_X4_add d a1 p4 w).bind fun r5 =>
            some (r5.1, ())
      else
        some (w, ())
theorem sb_X1_addInRange_71 {G : Gx} (hG : GW G) {M : Mx} (hl : (mL M).stackTraces = false) {w0 : Wd} {d : Nat} (K : Cx (G, true, M, 5, w0) cX1_addInRange "IntervalTree" (d + 1)) (hr : (mH M).sig.returnType = none) (hnm : (mH M).name = yX1_addInRange.name) (hxt : ∀ x ∈ (mC M).exceptionTable.toList, False) (hnd : (mS M).methodNamed? yX1_addInRange = some (mM M)) {g_X1_addInRange : Option Nat → Int32 → Int32 → Int32 → Wd → Option (Wd × Unit)} (hg_X1_addInRange : ∀ (p1 : Option Nat) (p2 : Int32) (p3 : Int32) (p4 : Int32) (w : Wd) (fp2 : Bool) (fp3 : Bool) (fp4 : Bool), Mt G true (mL M) yX1_addInRange (ws_ yX1_addInRange cX1_addInRange 5 (none)) d (rrV G pU) [aR 1 (some 8), aR 4 p1, aB fp2 p2, aB fp3 p3, aB fp4 p4] w (g_X1_addInRange p1 p2 p3 p4 w)) : ∀ (x1 : Option Nat) (x2 : Int32) (x3 : Int32) (x4 : Int32) (w : Wd) (fx2 : Bool) (fx3 : Bool) (fx4 : Bool), Jf (G, true, M, 5, w0) (rrV G pU) (b_X1_addInRange_71 d g_X1_addInRange x1 x2 x3 x4 w) w 71 [some (aR 1 (some 8)), some (aR 4 x1), some (aB fx2 x2), some (aB fx3 x3), some (aB fx4 x4)] [] := by
  intro x1 x2 x3 x4 w fx2 fx3 fx4
  refine j_aload_n K dX1_addInRange_71 rfl ?_
  refine j_aload_n K dX1_addInRange_72 rfl ?_
  refine j_nn (fun a5 ha5 => ?_)
  refine j_getR (k := 8) K dX1_addInRange_73 rfl rfl rfl q555 rfl rfl (by decide) ha5 ?_
  refine j_iload_n K dX1_addInRange_76 rfl ?_
  refine j_iload_n K dX1_addInRange_77 rfl ?_
  refine j_iload K dX1_addInRange_78 rfl ?_
  refine j_callV _ K (hg_X1_addInRange (gR w a5 8) x2 x3 x4 w fx2 fx3 fx4) dX1_addInRange_80 rfl rfl q695 q697 qs24 q93 q698 pm_X1_addInRange rfl rfl rfl rfl rfl (fun r6 _ => ?_)
  refine j_aload_n K dX1_addInRange_83 rfl ?_
  refine j_aload_n K dX1_addInRange_84 rfl ?_
  refine j_getR (k := 9) K dX1_addInRange_85 rfl rfl rfl q557 rfl rfl (by decide) ha5 ?_
  refine j_iload_n K dX1_addInRange_88 rfl ?_
  refine j_iload_n K dX1_addInRange_89 rfl ?_
  refine j_iload K dX1_addInRange_90 rfl ?_
  refine j_callV _ K (hg_X1_addInRange (gR r6.1 a5 9) x2 x3 x4 r6.1 fx2 fx3 fx4) dX1_addInRange_92 rfl rfl q695 q697 qs24 q93 q698 pm_X1_addInRange rfl rfl rfl rfl rfl (fun r7 _ => ?_)
  refine j_aload_n K dX1_addInRange_95 rfl ?_
  refine j_callV _ K (sim_X4_pull hG hl d a5 r7.1) dX1_addInRange_96 rfl rfl q331 q332 q333 q102 q334 pm_X4_pull rfl rfl rfl ha5 rfl (fun r8 _ => ?_)
  exact j_vret K hr dX1_addInRange_99
theorem sb_X1_addInRange_44 {G : Gx} (hG : GW G) {M : Mx} (hl : (mL M).stackTraces = false) {w0 : Wd} {d : Nat} (K : Cx (G, true, M, 5, w0) cX1_addInRange "IntervalTree" (d + 1)) (hr : (mH M).sig.returnType = none) (hnm : (mH M).name = yX1_addInRange.name) (hxt : ∀ x ∈ (mC M).exceptionTable.toList, False) (hnd : (mS M).methodNamed? yX1_addInRange = some (mM M)) {g_X1_addInRange : Option Nat → Int32 → Int32 → Int32 → Wd → Option (Wd × Unit)} (hg_X1_addInRange : ∀ (p1 : Option Nat) (p2 : Int32) (p3 : Int32) (p4 : Int32) (w : Wd) (fp2 : Bool) (fp3 : Bool) (fp4 : Bool), Mt G true (mL M) yX1_addInRange (ws_ yX1_addInRange cX1_addInRange 5 (none)) d (rrV G pU) [aR 1 (some 8), aR 4 p1, aB fp2 p2, aB fp3 p3, aB fp4 p4] w (g_X1_addInRange p1 p2 p3 p4 w)) : ∀ (x1 : Option Nat) (x2 : Int32) (x3 : Int32) (x4 : Int32) (w : Wd) (fx2 : Bool) (fx3 : Bool) (fx4 : Bool), Jf (G, true, M, 5, w0) (rrV G pU) (b_X1_addInRange_44 d g_X1_addInRange x1 x2 x3 x4 w) w 44 [some (aR 1 (some 8)), some (aR 4 x1), some (aB fx2 x2), some (aB fx3 x3), some (aB fx4 x4)] [] := by
  intro x1 x2 x3 x4 w fx2 fx3 fx4
  refine j_aload_n K dX1_addInRange_44 rfl ?_
  refine j_nn (fun a2 ha2 => ?_)
  refine j_callV _ K (sim_X4_push hG hl d a2 w) dX1_addInRange_45 rfl rfl q312 q313 q314 q102 q315 pm_X4_push rfl rfl rfl ha2 rfl (fun r3 _ => ?_)
  refine j_aload_n K dX1_addInRange_48 rfl ?_
  refine j_getI (k := 1) K dX1_addInRange_49 rfl rfl rfl q543 rfl rfl ha2 ?_
  refine j_iload_n K dX1_addInRange_52 rfl ?_
  refine j_iload_n K dX1_addInRange_53 rfl ?_
  refine j_callS _ K (sim_X1_isBetween hG hl d (gI r3.1 a2 1) x2 x3 r3.1 false fx2 fx3) dX1_addInRange_54 q444 q445 q93 q446 pm_X1_isBetween.2 rfl rfl rfl rfl (fun r4 _ => ?_)
  refine j_if_eq 71 K dX1_addInRange_57 (by decide) ?_ ?_
  · exact sb_X1_addInRange_71 hG hl K hr hnm hxt hnd hg_X1_addInRange _ _ _ _ _ _ _ _
  · refine j_aload_n K dX1_addInRange_60 rfl ?_
    refine j_dup K dX1_addInRange_61 rfl ?_
    refine j_getI (k := 3) K dX1_addInRange_62 rfl rfl rfl q547 rfl rfl ha2 ?_
    refine j_iload K dX1_addInRange_65 rfl ?_
    refine j_iadd K dX1_addInRange_67 ?_
    refine j_putI (k := 3) K dX1_addInRange_68 rfl rfl q547 rfl (Or.inl rfl) rfl rfl rfl ha2 ?_
    exact sb_X1_addInRange_71 hG hl K hr hnm hxt hnd hg_X1_addInRange _ _ _ _ _ _ _ _
theorem simB_X1_addInRange {G : Gx} (hG : GW G) {l : Launch} (hl : l.stackTraces = false) (d : Nat) {g_X1_addInRange : Option Nat → Int32 → Int32 → Int32 → Wd → Option (Wd × Unit)} (hg_X1_addInRange : ∀ (p1 : Option Nat) (p2 : Int32) (p3 : Int32) (p4 : Int32) (w : Wd) (fp2 : Bool) (fp3 : Bool) (fp4 : Bool), Mt G true l yX1_addInRange (ws_ yX1_addInRange cX1_addInRange 5 (none)) d (rrV G pU) [aR 1 (some 8), aR 4 p1, aB fp2 p2, aB fp3 p3, aB fp4 p4] w (g_X1_addInRange p1 p2 p3 p4 w)) (p1 : Option Nat) (p2 : Int32) (p3 : Int32) (p4 : Int32) (w : Wd) (fp2 : Bool) (fp3 : Bool) (fp4 : Bool) : Mt G true l yX1_addInRange (ws_ yX1_addInRange cX1_addInRange 5 (none)) (d + 1) (rrV G pU) [aR 1 (some 8), aR 4 p1, aB fp2 p2, aB fp3 p3, aB fp4 p4] w (fB_X1_addInRange d g_X1_addInRange p1 p2 p3 p4 w) := by
  refine Mt.of (own := "IntervalTree") hG hl (by decide +kernel) rfl rfl ?_
  intro M hM hr hnm hxt hnd K
  subst hM
  refine j_aload_n K dX1_addInRange_0 rfl ?_
  refine j_ifnull 20 K dX1_addInRange_1 (by decide) (fun _ => ?_) (fun a1 ha1 => ?_)
  · exact j_vret K hr dX1_addInRange_20
  · refine j_aload_n K dX1_addInRange_4 rfl ?_
    refine j_getI (k := 14) K dX1_addInRange_5 rfl rfl rfl q567 rfl rfl ha1 ?_
    refine j_iload_n K dX1_addInRange_8 rfl ?_
    refine j_icmp_lt 20 K dX1_addInRange_9 (by decide) ?_ ?_
    · exact j_vret K hr dX1_addInRange_20
    · refine j_aload_n K dX1_addInRange_12 rfl ?_
      refine j_getI (k := 13) K dX1_addInRange_13 rfl rfl rfl q565 rfl rfl ha1 ?_
      refine j_iload_n K dX1_addInRange_16 rfl ?_
      refine j_icmp_le 21 K dX1_addInRange_17 (by decide) ?_ ?_
      · refine j_aload_n K dX1_addInRange_21 rfl ?_
        refine j_getI (k := 13) K dX1_addInRange_22 rfl rfl rfl q565 rfl rfl ha1 ?_
        refine j_iload_n K dX1_addInRange_25 rfl ?_
        refine j_icmp_lt 44 K dX1_addInRange_26 (by decide) ?_ ?_
        · exact sb_X1_addInRange_44 hG hl K hr hnm hxt hnd hg_X1_addInRange _ _ _ _ _ _ _ _
        · refine j_aload_n K dX1_addInRange_29 rfl ?_
          refine j_getI (k := 14) K dX1_addInRange_30 rfl rfl rfl q567 rfl rfl ha1 ?_
          refine j_iload_n K dX1_addInRange_33 rfl ?_
          refine j_icmp_gt 44 K dX1_addInRange_34 (by decide) ?_ ?_
          · exact sb_X1_addInRange_44 hG hl K hr hnm hxt hnd hg_X1_addInRange _ _ _ _ _ _ _ _
          · refine j_aload_n K dX1_addInRange_37 rfl ?_
            refine j_iload K dX1_addInRange_38 rfl ?_
            refine j_callV _ K (sim_X4_add hG hl d a1 p4 w fp4) dX1_addInRange_40 rfl rfl q699 q317 q318 q102 q319 pm_X4_add rfl rfl rfl ha1 rfl (fun r5 _ => ?_)
            exact j_vret K hr dX1_addInRange_43
      · exact j_vret K hr dX1_addInRange_20
def f_X1_addInRange : Nat → Option Nat → Int32 → Int32 → Int32 → Wd → Option (Wd × Unit)
  | 0 => fun _ _ _ _ _ => none
  | d + 1 => fB_X1_addInRange d (f_X1_addInRange d)
theorem sim_X1_addInRange {G : Gx} (hG : GW G) {l : Launch} (hl : l.stackTraces = false) : ∀ (d : Nat) (p1 : Option Nat) (p2 : Int32) (p3 : Int32) (p4 : Int32) (w : Wd) (fp2 : Bool) (fp3 : Bool) (fp4 : Bool), Mt G true l yX1_addInRange (ws_ yX1_addInRange cX1_addInRange 5 (none)) d (rrV G pU) [aR 1 (some 8), aR 4 p1, aB fp2 p2, aB fp3 p3, aB fp4 p4] w (f_X1_addInRange d p1 p2 p3 p4 w) := by
  intro d
  induction d with
  | zero => intros; exact fun _ h => by cases h
  | succ d ih => exact simB_X1_addInRange hG hl d ih

theorem pm_X1_countBelow : yX1_countBelow.cls = RX1 ∧ yX1_countBelow.cls ≠ "java/lang/invoke/MethodHandle" ∧ yX1_countBelow.cls ≠ "java/lang/invoke/VarHandle" ∧ (parseMethodDescriptor yX1_countBelow.desc).map (fun d => d.parameters.length) = some 1 := by decide +kernel
def b_X1_countBelow_71 (d : Nat) (k8 : Int64 → Int32 → Option Nat → Wd → Option (Wd × Int32)) (x1 : Int64) (x4 : Option Nat) (s0 : Int32) (s1 : Int32) (w : Wd) : Option (Wd × Int32) :=
  (x4).bind fun a3 =>
  k8 x1 (s0 + s1) (gR w a3 9) w
def b_X1_countBelow_48 (d : Nat) (k8 : Int64 → Int32 → Option Nat → Wd → Option (Wd × Int32)) (x1 : Int64) (x4 : Option Nat) (s0 : Int32) (s1 : Int32) (w : Wd) : Option (Wd × Int32) :=
  (x4).bind fun a2 =>
  (gR w a2 8).elim
    (b_X1_countBelow_71 d k8 x1 x4 (s0 + s1) 0 w)
    fun a3 =>
    b_X1_countBelow_71 d k8 x1 x4 (s0 + s1) (gI w a3 10) w
def b_X1_countBelow_8 (d : Nat) : Nat → Int64 → Int32 → Option Nat → Wd → Option (Wd × Int32)
  | 0, _, _, _, _ => none
  | n + 1, x1, x3, x4, w =>
    (x4).elim
      (some (w, x3))
      fun a1 =>
      if (lg_cmp (Int32.toInt64 (gI w a1 1)) x1) < 0 then
        if (gI w a1 6) = 0 then
          b_X1_countBelow_48 d (b_X1_countBelow_8 d n) x1 x4 x3 1 w
        else
          b_X1_countBelow_48 d (b_X1_countBelow_8 d n) x1 x4 x3 0 w
      else
        b_X1_countBelow_8 d n x1 x3 (gR w a1 8) w
def f_X1_countBelow (d : Nat) (p1 : Int64) (w : Wd) : Option (Wd × Int32) :=
  match d with
  | 0 => none
  | d + 1 =>
    b_X1_countBelow_8 d FU p1 0 (gR w 8 4) w
theorem sb_X1_countBelow_71 {G : Gx} (hG : GW G) {M : Mx} (hl : (mL M).stackTraces = false) {w0 : Wd} {d : Nat} (K : Cx (G, true, M, 5, w0) cX1_countBelow "IntervalTree" (d + 1)) (hr : (mH M).sig.returnType = some .int) (hnm : (mH M).name = yX1_countBelow.name) (hxt : ∀ x ∈ (mC M).exceptionTable.toList, False) (hnd : (mS M).methodNamed? yX1_countBelow = some (mM M)) {k8 : Int64 → Int32 → Option Nat → Wd → Option (Wd × Int32)} (hk8 : ∀ (x1 : Int64) (x3 : Int32) (x4 : Option Nat) (w : Wd) (fx3 : Bool), Jf (G, true, M, 5, w0) (rrV G pI) (k8 x1 x3 x4 w) w 8 [none, some (aL x1), none, some (aB fx3 x3), some (aR 4 x4)] []) : ∀ (x1 : Int64) (x4 : Option Nat) (s0 : Int32) (s1 : Int32) (w : Wd) (fs0 : Bool) (fs1 : Bool), Jf (G, true, M, 5, w0) (rrV G pI) (b_X1_countBelow_71 d k8 x1 x4 s0 s1 w) w 71 [none, some (aL x1), none, none, some (aR 4 x4)] [aB fs1 s1, aB fs0 s0] := by
  intro x1 x4 s0 s1 w fs0 fs1
  refine j_iadd K dX1_countBelow_71 ?_
  refine j_istore_n K dX1_countBelow_72 rfl rfl ?_
  refine j_aload K dX1_countBelow_73 rfl ?_
  refine j_nn (fun a3 ha3 => ?_)
  refine j_getR (k := 9) K dX1_countBelow_75 rfl rfl rfl q557 rfl rfl (by decide) ha3 ?_
  refine j_astore K dX1_countBelow_78 rfl rfl ?_
  refine j_goto 8 K dX1_countBelow_80 (by decide) ?_
  exact j_wk (hk8 _ _ _ _ _) ⟨rfl, rfl, rfl, trivial⟩
theorem sb_X1_countBelow_48 {G : Gx} (hG : GW G) {M : Mx} (hl : (mL M).stackTraces = false) {w0 : Wd} {d : Nat} (K : Cx (G, true, M, 5, w0) cX1_countBelow "IntervalTree" (d + 1)) (hr : (mH M).sig.returnType = some .int) (hnm : (mH M).name = yX1_countBelow.name) (hxt : ∀ x ∈ (mC M).exceptionTable.toList, False) (hnd : (mS M).methodNamed? yX1_countBelow = some (mM M)) {k8 : Int64 → Int32 → Option Nat → Wd → Option (Wd × Int32)} (hk8 : ∀ (x1 : Int64) (x3 : Int32) (x4 : Option Nat) (w : Wd) (fx3 : Bool), Jf (G, true, M, 5, w0) (rrV G pI) (k8 x1 x3 x4 w) w 8 [none, some (aL x1), none, some (aB fx3 x3), some (aR 4 x4)] []) : ∀ (x1 : Int64) (x4 : Option Nat) (s0 : Int32) (s1 : Int32) (w : Wd) (fs0 : Bool), Jf (G, true, M, 5, w0) (rrV G pI) (b_X1_countBelow_48 d k8 x1 x4 s0 s1 w) w 48 [none, some (aL x1), none, none, some (aR 4 x4)] [aB true s1, aB fs0 s0] := by
  intro x1 x4 s0 s1 w fs0
  refine j_iadd K dX1_countBelow_48 ?_
  refine j_istore_n K dX1_countBelow_49 rfl rfl ?_
  refine j_iload_n K dX1_countBelow_50 rfl ?_
  refine j_aload K dX1_countBelow_51 rfl ?_
  refine j_nn (fun a2 ha2 => ?_)
  refine j_getR (k := 8) K dX1_countBelow_53 rfl rfl rfl q555 rfl rfl (by decide) ha2 ?_
  refine j_ifnonnull 63 K dX1_countBelow_56 (by decide) (fun a3 ha3 => ?_) (fun _ => ?_)
  · refine j_aload K dX1_countBelow_63 rfl ?_
    refine j_getR (k := 8) K dX1_countBelow_65 rfl rfl rfl q555 rfl rfl (by decide) ha2 ?_
    refine j_getI (k := 10) K dX1_countBelow_68 rfl rfl rfl q559 rfl rfl ha3 ?_
    exact j_wk (sb_X1_countBelow_71 hG hl K hr hnm hxt hnd hk8 _ _ _ _ _ _ _) ⟨rfl, rfl, trivial⟩
  · refine j_iconstZ K dX1_countBelow_59 rfl (Or.inl rfl) ?_
    refine j_goto 71 K dX1_countBelow_60 (by decide) ?_
    exact j_wk (sb_X1_countBelow_71 hG hl K hr hnm hxt hnd hk8 _ _ _ _ _ _ _) ⟨rfl, rfl, trivial⟩
theorem sb_X1_countBelow_8 {G : Gx} (hG : GW G) {M : Mx} (hl : (mL M).stackTraces = false) {w0 : Wd} {d : Nat} (K : Cx (G, true, M, 5, w0) cX1_countBelow "IntervalTree" (d + 1)) (hr : (mH M).sig.returnType = some .int) (hnm : (mH M).name = yX1_countBelow.name) (hxt : ∀ x ∈ (mC M).exceptionTable.toList, False) (hnd : (mS M).methodNamed? yX1_countBelow = some (mM M)) : ∀ (n : Nat), ∀ (x1 : Int64) (x3 : Int32) (x4 : Option Nat) (w : Wd) (fx3 : Bool), Jf (G, true, M, 5, w0) (rrV G pI) (b_X1_countBelow_8 d n x1 x3 x4 w) w 8 [none, some (aL x1), none, some (aB fx3 x3), some (aR 4 x4)] [] := by
  intro n
  induction n with
  | zero => intros; exact j_none
  | succ n ih =>
    intro x1 x3 x4 w fx3
    refine j_aload K dX1_countBelow_8 rfl ?_
    refine j_ifnull 83 K dX1_countBelow_10 (by decide) (fun _ => ?_) (fun a1 ha1 => ?_)
    · refine j_iload_n K dX1_countBelow_83 rfl ?_
      exact j_iret K hr dX1_countBelow_84
    · refine j_aload K dX1_countBelow_13 rfl ?_
      refine j_getI (k := 1) K dX1_countBelow_15 rfl rfl rfl q543 rfl rfl ha1 ?_
      refine j_i2l K dX1_countBelow_18 ?_
      refine j_lload_n K dX1_countBelow_19 rfl ?_
      refine j_lcmp K dX1_countBelow_20 ?_
      refine j_if_lt 34 K dX1_countBelow_21 (by decide) ?_ ?_
      · refine j_iload_n K dX1_countBelow_34 rfl ?_
        refine j_aload K dX1_countBelow_35 rfl ?_
        refine j_getZ (k := 6) K dX1_countBelow_37 rfl rfl rfl q552 rfl rfl rfl ha1 ?_
        refine j_if_eq 47 K dX1_countBelow_40 (by decide) ?_ ?_
        · refine j_iconstZ K dX1_countBelow_47 rfl (Or.inr rfl) ?_
          exact j_wk (sb_X1_countBelow_48 hG hl K hr hnm hxt hnd ih _ _ _ _ _ _) ⟨rfl, rfl, trivial⟩
        · refine j_iconstZ K dX1_countBelow_43 rfl (Or.inl rfl) ?_
          refine j_goto 48 K dX1_countBelow_44 (by decide) ?_
          exact j_wk (sb_X1_countBelow_48 hG hl K hr hnm hxt hnd ih _ _ _ _ _ _) ⟨rfl, rfl, trivial⟩
      · refine j_aload K dX1_countBelow_24 rfl ?_
        refine j_getR (k := 8) K dX1_countBelow_26 rfl rfl rfl q555 rfl rfl (by decide) ha1 ?_
        refine j_astore K dX1_countBelow_29 rfl rfl ?_
        refine j_goto 8 K dX1_countBelow_31 (by decide) ?_
        exact j_wk (ih _ _ _ _ _) ⟨rfl, rfl, rfl, trivial⟩
theorem sim_X1_countBelow {G : Gx} (hG : GW G) {l : Launch} (hl : l.stackTraces = false) (d : Nat) (p1 : Int64) (w : Wd) : Mt G true l yX1_countBelow (ws_ yX1_countBelow cX1_countBelow 5 (some .int)) d (rrV G pI) [aR 1 (some 8), aL p1] w (f_X1_countBelow d p1 w) := by
  refine Mt.of (own := "IntervalTree") hG hl (by decide +kernel) rfl rfl ?_
  intro M hM hr hnm hxt hnd K
  subst hM
  cases d with
  | zero => exact j_none
  | succ d =>
    refine j_iconstZ K dX1_countBelow_0 rfl (Or.inl rfl) ?_
    refine j_istore_n K dX1_countBelow_1 rfl rfl ?_
    refine j_aload_n K dX1_countBelow_2 rfl ?_
    refine j_getR (k := 4) K dX1_countBelow_3 rfl rfl rfl q185 rfl rfl (by decide) rfl ?_
    refine j_astore K dX1_countBelow_6 rfl rfl ?_
    exact j_wk (sb_X1_countBelow_8 hG hl K hr hnm hxt hnd FU _ _ _ _ _) ⟨rfl, rfl, rfl, trivial⟩

theorem pm_X1_addWeight : yX1_addWeight.cls = RX1 ∧ yX1_addWeight.cls ≠ "java/lang/invoke/MethodHandle" ∧ yX1_addWeight.cls ≠ "java/lang/invoke/VarHandle" ∧ (parseMethodDescriptor yX1_addWeight.desc).map (fun d => d.parameters.length) = some 3 := by decide +kernel
def b_X1_addWeight_23 (d : Nat) (x1 : Int32) (x2 : Int32) (x3 : Int32) (s0 : Int32) (w : Wd) : Option (Wd × (Int32 ⊕ Nat)) :=
  bX (f_X1_check d s0 w) fun wr1 r1 =>
  (f_X1_addInRange d (gR wr1 8 4) x1 x2 x3 wr1).bind fun r2 =>
  (f_X1_countBelow d ((Int32.toInt64 x2) + 1) r2.1).bind fun r3 =>
  (f_X1_countBelow d (Int32.toInt64 x1) r3.1).bind fun r4 =>
  some (r4.1, .inl (r3.2 - r4.2))
def b_X1_addWeight_22 (d : Nat) (x1 : Int32) (x2 : Int32) (x3 : Int32) (w : Wd) : Option (Wd × (Int32 ⊕ Nat)) :=
  b_X1_addWeight_23 d x1 x2 x3 0 w
def f_X1_addWeight (d : Nat) (p1 : Int32) (p2 : Int32) (p3 : Int32) (w : Wd) : Option (Wd × (Int32 ⊕ Nat)) :=
  match d with
  | 0 => none
  | d + 1 =>
    if p2 < p1 then
      b_X1_addWeight_22 d p1 p2 p3 w
    else
      (f_X1_isBetween d p3 (-1000) 1000 w).bind fun r1 =>
      if r1.2 = 0 then
        b_X1_addWeight_22 d p1 p2 p3 r1.1
      else
        b_X1_addWeight_23 d p1 p2 p3 1 r1.1
theorem sb_X1_addWeight_23 {G : Gx} (hG : GW G) {M : Mx} (hl : (mL M).stackTraces = false) {w0 : Wd} {d : Nat} (K : Cx (G, true, M, 4, w0) cX1_addWeight "IntervalTree" (d + 1)) (hr : (mH M).sig.returnType = some .int) (hnm : (mH M).name = yX1_addWeight.name) (hxt : ∀ x ∈ (mC M).exceptionTable.toList, False) (hnd : (mS M).methodNamed? yX1_addWeight = some (mM M)) : ∀ (x1 : Int32) (x2 : Int32) (x3 : Int32) (s0 : Int32) (w : Wd) (fx1 : Bool) (fx2 : Bool) (fx3 : Bool), Jf (G, true, M, 4, w0) (rrX G pI) (b_X1_addWeight_23 d x1 x2 x3 s0 w) w 23 [some (aR 1 (some 8)), some (aB fx1 x1), some (aB fx2 x2), some (aB fx3 x3)] [aB true s0] := by
  intro x1 x2 x3 s0 w fx1 fx2 fx3
  refine j_callSX _ K hxt (sim_X1_check hG hl d s0 w) dX1_addWeight_23 q447 q448 q93 q449 pm_X1_check.2 rfl rfl rfl rfl (fun wr1 r1 _ => ?_)
  refine j_aload_n K dX1_addWeight_26 rfl ?_
  refine j_aload_n K dX1_addWeight_27 rfl ?_
  refine j_getR (k := 4) K dX1_addWeight_28 rfl rfl rfl q185 rfl rfl (by decide) rfl ?_
  refine j_iload_n K dX1_addWeight_31 rfl ?_
  refine j_iload_n K dX1_addWeight_32 rfl ?_
  refine j_iload_n K dX1_addWeight_33 rfl ?_
  refine j_callV _ K (sim_X1_addInRange hG hl d (gR wr1 8 4) x1 x2 x3 wr1 fx1 fx2 fx3) dX1_addWeight_34 rfl rfl q695 q697 qs24 q93 q698 pm_X1_addInRange rfl rfl rfl rfl rfl (fun r2 _ => ?_)
  refine j_aload_n K dX1_addWeight_37 rfl ?_
  refine j_iload_n K dX1_addWeight_38 rfl ?_
  refine j_i2l K dX1_addWeight_39 ?_
  refine j_lconst (x := 1) K dX1_addWeight_40 rfl ?_
  refine j_ladd K dX1_addWeight_41 ?_
  refine j_callV _ K (sim_X1_countBelow hG hl d ((Int32.toInt64 x2) + 1) r2.1) dX1_addWeight_42 rfl rfl q700 q702 qs25 q93 q703 pm_X1_countBelow rfl rfl rfl rfl rfl (fun r3 _ => ?_)
  refine j_aload_n K dX1_addWeight_45 rfl ?_
  refine j_iload_n K dX1_addWeight_46 rfl ?_
  refine j_i2l K dX1_addWeight_47 ?_
  refine j_callV _ K (sim_X1_countBelow hG hl d (Int32.toInt64 x1) r3.1) dX1_addWeight_48 rfl rfl q700 q702 qs25 q93 q703 pm_X1_countBelow rfl rfl rfl rfl rfl (fun r4 _ => ?_)
  refine j_isub K dX1_addWeight_51 ?_
  exact j_iretX K hr dX1_addWeight_52
theorem sb_X1_addWeight_22 {G : Gx} (hG : GW G) {M : Mx} (hl : (mL M).stackTraces = false) {w0 : Wd} {d : Nat} (K : Cx (G, true, M, 4, w0) cX1_addWeight "IntervalTree" (d + 1)) (hr : (mH M).sig.returnType = some .int) (hnm : (mH M).name = yX1_addWeight.name) (hxt : ∀ x ∈ (mC M).exceptionTable.toList, False) (hnd : (mS M).methodNamed? yX1_addWeight = some (mM M)) : ∀ (x1 : Int32) (x2 : Int32) (x3 : Int32) (w : Wd) (fx1 : Bool) (fx2 : Bool) (fx3 : Bool), Jf (G, true, M, 4, w0) (rrX G pI) (b_X1_addWeight_22 d x1 x2 x3 w) w 22 [some (aR 1 (some 8)), some (aB fx1 x1), some (aB fx2 x2), some (aB fx3 x3)] [] := by
  intro x1 x2 x3 w fx1 fx2 fx3
  refine j_iconstZ K dX1_addWeight_22 rfl (Or.inl rfl) ?_
  exact sb_X1_addWeight_23 hG hl K hr hnm hxt hnd _ _ _ _ _ _ _ _
theorem sim_X1_addWeight {G : Gx} (hG : GW G) {l : Launch} (hl : l.stackTraces = false) (d : Nat) (p1 : Int32) (p2 : Int32) (p3 : Int32) (w : Wd) (fp1 : Bool) (fp2 : Bool) (fp3 : Bool) : Mt G true l yX1_addWeight (ws_ yX1_addWeight cX1_addWeight 4 (some .int)) d (rrX G pI) [aR 1 (some 8), aB fp1 p1, aB fp2 p2, aB fp3 p3] w (f_X1_addWeight d p1 p2 p3 w) := by
  refine Mt.of (own := "IntervalTree") hG hl (by decide +kernel) rfl rfl ?_
  intro M hM hr hnm hxt hnd K
  subst hM
  cases d with
  | zero => exact j_none
  | succ d =>
    refine j_iload_n K dX1_addWeight_0 rfl ?_
    refine j_iload_n K dX1_addWeight_1 rfl ?_
    refine j_icmp_gt 22 K dX1_addWeight_2 (by decide) ?_ ?_
    · exact sb_X1_addWeight_22 hG hl K hr hnm hxt hnd _ _ _ _ _ _ _
    · refine j_iload_n K dX1_addWeight_5 rfl ?_
      refine j_sipush (x := (-1000)) K dX1_addWeight_6 (by decide +kernel) ?_
      refine j_sipush (x := 1000) K dX1_addWeight_9 (by decide +kernel) ?_
      refine j_callS _ K (sim_X1_isBetween hG hl d p3 (-1000) 1000 w fp3 false false) dX1_addWeight_12 q444 q445 q93 q446 pm_X1_isBetween.2 rfl rfl rfl rfl (fun r1 _ => ?_)
      refine j_if_eq 22 K dX1_addWeight_15 (by decide) ?_ ?_
      · exact sb_X1_addWeight_22 hG hl K hr hnm hxt hnd _ _ _ _ _ _ _
      · refine j_iconstZ K dX1_addWeight_18 rfl (Or.inr rfl) ?_
        refine j_goto 23 K dX1_addWeight_19 (by decide) ?_
        exact sb_X1_addWeight_23 hG hl K hr hnm hxt hnd _ _ _ _ _ _ _ _

theorem pm_X1_state : yX1_state.cls = RX1 ∧ yX1_state.cls ≠ "java/lang/invoke/MethodHandle" ∧ yX1_state.cls ≠ "java/lang/invoke/VarHandle" ∧ (parseMethodDescriptor yX1_state.desc).map (fun d => d.parameters.length) = some 1 := by decide +kernel
def f_X1_state (d : Nat) (p1 : Int32) (w : Wd) : Option (Wd × (Int32 ⊕ Nat)) :=
  match d with
  | 0 => none
  | d + 1 =>
    (f_X1_isBetween d p1 0 ((gI w 8 5) - 1) w).bind fun r1 =>
    if r1.2 = 0 then
      if 8 ≤ d then
        if room r1.1 6 = true then
          some (nw r1.1 42 0 6, .inr (gN r1.1))
        else none
      else none
    else
      if ib p1 500 = true then
        (gR r1.1 9 p1.toNatClampNeg).elim
          (some (r1.1, .inl 2))
          fun a3 =>
          if (gI r1.1 a3 6) = 0 then
            some (r1.1, .inl 0)
          else
            some (r1.1, .inl 1)
      else none
theorem sim_X1_state {G : Gx} (hG : GW G) {l : Launch} (hl : l.stackTraces = false) (d : Nat) (p1 : Int32) (w : Wd) (fp1 : Bool) : Mt G true l yX1_state (ws_ yX1_state cX1_state 3 (some .int)) d (rrX G pI) [aR 1 (some 8), aB fp1 p1] w (f_X1_state d p1 w) := by
  refine Mt.of (own := "IntervalTree") hG hl (by decide +kernel) rfl rfl ?_
  intro M hM hr hnm hxt hnd K
  subst hM
  cases d with
  | zero => exact j_none
  | succ d =>
    refine j_iload_n K dX1_state_0 rfl ?_
    refine j_iconstZ K dX1_state_1 rfl (Or.inl rfl) ?_
    refine j_aload_n K dX1_state_2 rfl ?_
    refine j_getI (k := 5) K dX1_state_3 rfl rfl rfl q186 rfl rfl rfl ?_
    refine j_iconstZ K dX1_state_6 rfl (Or.inr rfl) ?_
    refine j_isub K dX1_state_7 ?_
    refine j_callS _ K (sim_X1_isBetween hG hl d p1 0 ((gI w 8 5) - 1) w fp1 true false) dX1_state_8 q444 q445 q93 q446 pm_X1_isBetween.2 rfl rfl rfl rfl (fun r1 _ => ?_)
    refine j_if_ne 24 K dX1_state_11 (by decide) ?_ ?_
    · refine j_aload_n K dX1_state_24 rfl ?_
      refine j_getA (k := 0) 0 K dX1_state_25 rfl rfl rfl q179 rfl rfl (by decide) rfl rfl rfl ?_
      refine j_iload_n K dX1_state_28 rfl ?_
      refine j_ib (fun hi2 => ?_)
      refine j_aal K dX1_state_29 rfl (fun _ => rfl) (by decide) rfl rfl (fxLen 0 rfl rfl) hi2 ?_
      refine j_astore_n K dX1_state_30 rfl rfl ?_
      refine j_aload_n K dX1_state_31 rfl ?_
      refine j_ifnonnull 39 K dX1_state_32 (by decide) (fun a3 ha3 => ?_) (fun _ => ?_)
      · refine j_aload_n K dX1_state_39 rfl ?_
        refine j_getZ (k := 6) K dX1_state_40 rfl rfl rfl q552 rfl rfl rfl ha3 ?_
        refine j_if_eq 50 K dX1_state_43 (by decide) ?_ ?_
        · refine j_iconstZ K dX1_state_50 rfl (Or.inl rfl) ?_
          exact j_iretX K hr dX1_state_51
        · refine j_iconstZ K dX1_state_46 rfl (Or.inr rfl) ?_
          refine j_goto 51 K dX1_state_47 (by decide) ?_
          exact j_iretX K hr dX1_state_51
      · refine j_iconst (x := 2) K dX1_state_35 rfl ?_
        refine j_goto 51 K dX1_state_36 (by decide) ?_
        exact j_iretX K hr dX1_state_51
    · refine j_dp (fun h84 => ?_)
      refine j_rm (fun hr5 => ?_)
      refine j_mkSN (kd := 42) K rfl (by decide +kernel) q643 q103 q679 at_X1_42_1 at_X1_42_2 at_X1_42_3 rfl dX1_state_14 dX1_state_17 dX1_state_18 dX1_state_20 (Nat.le_succ_of_le h84) hr5 rfl ?_
      refine j_athrow K dX1_state_23 ?_
      exact j_outN K hxt rfl

theorem pm_X1_low : yX1_low.cls = RX1 ∧ yX1_low.cls ≠ "java/lang/invoke/MethodHandle" ∧ yX1_low.cls ≠ "java/lang/invoke/VarHandle" ∧ (parseMethodDescriptor yX1_low.desc).map (fun d => d.parameters.length) = some 1 := by decide +kernel
def f_X1_low (d : Nat) (p1 : Int32) (w : Wd) : Option (Wd × (Int32 ⊕ Nat)) :=
  match d with
  | 0 => none
  | d + 1 =>
    bX (f_X1_inTree d p1 w) fun wr1 r1 =>
    (r1).bind fun a2 =>
    some (wr1, .inl (gI wr1 a2 1))
theorem sim_X1_low {G : Gx} (hG : GW G) {l : Launch} (hl : l.stackTraces = false) (d : Nat) (p1 : Int32) (w : Wd) (fp1 : Bool) : Mt G true l yX1_low (ws_ yX1_low cX1_low 2 (some .int)) d (rrX G pI) [aR 1 (some 8), aB fp1 p1] w (f_X1_low d p1 w) := by
  refine Mt.of (own := "IntervalTree") hG hl (by decide +kernel) rfl rfl ?_
  intro M hM hr hnm hxt hnd K
  subst hM
  cases d with
  | zero => exact j_none
  | succ d =>
    refine j_aload_n K dX1_low_0 rfl ?_
    refine j_iload_n K dX1_low_1 rfl ?_
    refine j_callVX _ K hxt (sim_X1_inTree hG hl d p1 w fp1) dX1_low_2 rfl rfl q639 q641 qs20 q93 q642 pm_X1_inTree rfl rfl rfl rfl rfl (fun wr1 r1 _ => ?_)
    refine j_nn (fun a2 ha2 => ?_)
    refine j_getI (k := 1) K dX1_low_5 rfl rfl rfl q543 rfl rfl ha2 ?_
    exact j_iretX K hr dX1_low_8

theorem pm_X1_high : yX1_high.cls = RX1 ∧ yX1_high.cls ≠ "java/lang/invoke/MethodHandle" ∧ yX1_high.cls ≠ "java/lang/invoke/VarHandle" ∧ (parseMethodDescriptor yX1_high.desc).map (fun d => d.parameters.length) = some 1 := by decide +kernel
def f_X1_high (d : Nat) (p1 : Int32) (w : Wd) : Option (Wd × (Int32 ⊕ Nat)) :=
  match d with
  | 0 => none
  | d + 1 =>
    bX (f_X1_inTree d p1 w) fun wr1 r1 =>
    (r1).bind fun a2 =>
    some (wr1, .inl (gI wr1 a2 2))
theorem sim_X1_high {G : Gx} (hG : GW G) {l : Launch} (hl : l.stackTraces = false) (d : Nat) (p1 : Int32) (w : Wd) (fp1 : Bool) : Mt G true l yX1_high (ws_ yX1_high cX1_high 2 (some .int)) d (rrX G pI) [aR 1 (some 8), aB fp1 p1] w (f_X1_high d p1 w) := by
  refine Mt.of (own := "IntervalTree") hG hl (by decide +kernel) rfl rfl ?_
  intro M hM hr hnm hxt hnd K
  subst hM
  cases d with
  | zero => exact j_none
  | succ d =>
    refine j_aload_n K dX1_high_0 rfl ?_
    refine j_iload_n K dX1_high_1 rfl ?_
    refine j_callVX _ K hxt (sim_X1_inTree hG hl d p1 w fp1) dX1_high_2 rfl rfl q639 q641 qs20 q93 q642 pm_X1_inTree rfl rfl rfl rfl rfl (fun wr1 r1 _ => ?_)
    refine j_nn (fun a2 ha2 => ?_)
    refine j_getI (k := 2) K dX1_high_5 rfl rfl rfl q545 rfl rfl ha2 ?_
    exact j_iretX K hr dX1_high_8

theorem pm_X1_weight : yX1_weight.cls = RX1 ∧ yX1_weight.cls ≠ "java/lang/invoke/MethodHandle" ∧ yX1_weight.cls ≠ "java/lang/invoke/VarHandle" ∧ (parseMethodDescriptor yX1_weight.desc).map (fun d => d.parameters.length) = some 1 := by decide +kernel
def f_X1_weight (d : Nat) (p1 : Int32) (w : Wd) : Option (Wd × (Int32 ⊕ Nat)) :=
  match d with
  | 0 => none
  | d + 1 =>
    bX (f_X1_inTree d p1 w) fun wr1 r1 =>
    (f_X1_weightOf d r1 wr1).bind fun r2 =>
    some (r2.1, .inl r2.2)
theorem sim_X1_weight {G : Gx} (hG : GW G) {l : Launch} (hl : l.stackTraces = false) (d : Nat) (p1 : Int32) (w : Wd) (fp1 : Bool) : Mt G true l yX1_weight (ws_ yX1_weight cX1_weight 2 (some .int)) d (rrX G pI) [aR 1 (some 8), aB fp1 p1] w (f_X1_weight d p1 w) := by
  refine Mt.of (own := "IntervalTree") hG hl (by decide +kernel) rfl rfl ?_
  intro M hM hr hnm hxt hnd K
  subst hM
  cases d with
  | zero => exact j_none
  | succ d =>
    refine j_aload_n K dX1_weight_0 rfl ?_
    refine j_aload_n K dX1_weight_1 rfl ?_
    refine j_iload_n K dX1_weight_2 rfl ?_
    refine j_callVX _ K hxt (sim_X1_inTree hG hl d p1 w fp1) dX1_weight_3 rfl rfl q639 q641 qs20 q93 q642 pm_X1_inTree rfl rfl rfl rfl rfl (fun wr1 r1 _ => ?_)
    refine j_callV _ K (sim_X1_weightOf hG hl d r1 wr1) dX1_weight_6 rfl rfl q732 q137 qs0 q93 q138 pm_X1_weightOf rfl rfl rfl rfl rfl (fun r2 _ => ?_)
    exact j_iretX K hr dX1_weight_9

theorem pm_X1_parent : yX1_parent.cls = RX1 ∧ yX1_parent.cls ≠ "java/lang/invoke/MethodHandle" ∧ yX1_parent.cls ≠ "java/lang/invoke/VarHandle" ∧ (parseMethodDescriptor yX1_parent.desc).map (fun d => d.parameters.length) = some 1 := by decide +kernel
def f_X1_parent (d : Nat) (p1 : Int32) (w : Wd) : Option (Wd × (Int32 ⊕ Nat)) :=
  match d with
  | 0 => none
  | d + 1 =>
    bX (f_X1_inTree d p1 w) fun wr1 r1 =>
    (r1).bind fun a2 =>
    (f_X1_idOf d (gR wr1 a2 7) wr1).bind fun r3 =>
    some (r3.1, .inl r3.2)
theorem sim_X1_parent {G : Gx} (hG : GW G) {l : Launch} (hl : l.stackTraces = false) (d : Nat) (p1 : Int32) (w : Wd) (fp1 : Bool) : Mt G true l yX1_parent (ws_ yX1_parent cX1_parent 2 (some .int)) d (rrX G pI) [aR 1 (some 8), aB fp1 p1] w (f_X1_parent d p1 w) := by
  refine Mt.of (own := "IntervalTree") hG hl (by decide +kernel) rfl rfl ?_
  intro M hM hr hnm hxt hnd K
  subst hM
  cases d with
  | zero => exact j_none
  | succ d =>
    refine j_aload_n K dX1_parent_0 rfl ?_
    refine j_iload_n K dX1_parent_1 rfl ?_
    refine j_callVX _ K hxt (sim_X1_inTree hG hl d p1 w fp1) dX1_parent_2 rfl rfl q639 q641 qs20 q93 q642 pm_X1_inTree rfl rfl rfl rfl rfl (fun wr1 r1 _ => ?_)
    refine j_nn (fun a2 ha2 => ?_)
    refine j_getR (k := 7) K dX1_parent_5 rfl rfl rfl q553 rfl rfl (by decide) ha2 ?_
    refine j_callS _ K (sim_X1_idOf hG hl d (gR wr1 a2 7) wr1) dX1_parent_8 q398 q399 q93 q400 pm_X1_idOf.2 rfl rfl rfl rfl (fun r3 _ => ?_)
    exact j_iretX K hr dX1_parent_11

theorem pm_X1_child : yX1_child.cls = RX1 ∧ yX1_child.cls ≠ "java/lang/invoke/MethodHandle" ∧ yX1_child.cls ≠ "java/lang/invoke/VarHandle" ∧ (parseMethodDescriptor yX1_child.desc).map (fun d => d.parameters.length) = some 2 := by decide +kernel
def b_X1_child_21 (d : Nat) (s0 : Option Nat) (w : Wd) : Option (Wd × (Int32 ⊕ Nat)) :=
  (f_X1_idOf d s0 w).bind fun r3 =>
  some (r3.1, .inl r3.2)
def f_X1_child (d : Nat) (p1 : Int32) (p2 : Int32) (w : Wd) : Option (Wd × (Int32 ⊕ Nat)) :=
  match d with
  | 0 => none
  | d + 1 =>
    bX (f_X1_inTree d p1 w) fun wr1 r1 =>
    if p2 = 0 then
      (r1).bind fun a2 =>
      b_X1_child_21 d (gR wr1 a2 8) wr1
    else
      (r1).bind fun a4 =>
      b_X1_child_21 d (gR wr1 a4 9) wr1
theorem sb_X1_child_21 {G : Gx} (hG : GW G) {M : Mx} (hl : (mL M).stackTraces = false) {w0 : Wd} {d : Nat} (K : Cx (G, true, M, 4, w0) cX1_child "IntervalTree" (d + 1)) (hr : (mH M).sig.returnType = some .int) (hnm : (mH M).name = yX1_child.name) (hxt : ∀ x ∈ (mC M).exceptionTable.toList, False) (hnd : (mS M).methodNamed? yX1_child = some (mM M)) : ∀ (s0 : Option Nat) (w : Wd), Jf (G, true, M, 4, w0) (rrX G pI) (b_X1_child_21 d s0 w) w 21 [none, none, none, none] [aR 4 s0] := by
  intro s0 w
  refine j_callS _ K (sim_X1_idOf hG hl d s0 w) dX1_child_21 q398 q399 q93 q400 pm_X1_idOf.2 rfl rfl rfl rfl (fun r3 _ => ?_)
  exact j_iretX K hr dX1_child_24
theorem sim_X1_child {G : Gx} (hG : GW G) {l : Launch} (hl : l.stackTraces = false) (d : Nat) (p1 : Int32) (p2 : Int32) (w : Wd) (fp1 : Bool) : Mt G true l yX1_child (ws_ yX1_child cX1_child 4 (some .int)) d (rrX G pI) [aR 1 (some 8), aB fp1 p1, aZ p2] w (f_X1_child d p1 p2 w) := by
  refine Mt.of (own := "IntervalTree") hG hl (by decide +kernel) rfl rfl ?_
  intro M hM hr hnm hxt hnd K
  subst hM
  cases d with
  | zero => exact j_none
  | succ d =>
    refine j_aload_n K dX1_child_0 rfl ?_
    refine j_iload_n K dX1_child_1 rfl ?_
    refine j_callVX _ K hxt (sim_X1_inTree hG hl d p1 w fp1) dX1_child_2 rfl rfl q639 q641 qs20 q93 q642 pm_X1_inTree rfl rfl rfl rfl rfl (fun wr1 r1 _ => ?_)
    refine j_astore_n K dX1_child_5 rfl rfl ?_
    refine j_iload_n K dX1_child_6 rfl ?_
    refine j_if_eq 17 K dX1_child_7 (by decide) ?_ ?_
    · refine j_aload_n K dX1_child_17 rfl ?_
      refine j_nn (fun a2 ha2 => ?_)
      refine j_getR (k := 8) K dX1_child_18 rfl rfl rfl q555 rfl rfl (by decide) ha2 ?_
      exact j_wk (sb_X1_child_21 hG hl K hr hnm hxt hnd _ _) trivial
    · refine j_aload_n K dX1_child_10 rfl ?_
      refine j_nn (fun a4 ha4 => ?_)
      refine j_getR (k := 9) K dX1_child_11 rfl rfl rfl q557 rfl rfl (by decide) ha4 ?_
      refine j_goto 21 K dX1_child_14 (by decide) ?_
      exact j_wk (sb_X1_child_21 hG hl K hr hnm hxt hnd _ _) trivial

theorem pm_X1_isRed : yX1_isRed.cls = RX1 ∧ yX1_isRed.cls ≠ "java/lang/invoke/MethodHandle" ∧ yX1_isRed.cls ≠ "java/lang/invoke/VarHandle" ∧ (parseMethodDescriptor yX1_isRed.desc).map (fun d => d.parameters.length) = some 1 := by decide +kernel
def f_X1_isRed (d : Nat) (p1 : Int32) (w : Wd) : Option (Wd × (Int32 ⊕ Nat)) :=
  match d with
  | 0 => none
  | d + 1 =>
    bX (f_X1_inTree d p1 w) fun wr1 r1 =>
    (r1).bind fun a2 =>
    some (wr1, .inl (gI wr1 a2 5))
theorem sim_X1_isRed {G : Gx} (hG : GW G) {l : Launch} (hl : l.stackTraces = false) (d : Nat) (p1 : Int32) (w : Wd) (fp1 : Bool) : Mt G true l yX1_isRed (ws_ yX1_isRed cX1_isRed 2 (some .boolean)) d (rrX G pZ) [aR 1 (some 8), aB fp1 p1] w (f_X1_isRed d p1 w) := by
  refine Mt.of (own := "IntervalTree") hG hl (by decide +kernel) rfl rfl ?_
  intro M hM hr hnm hxt hnd K
  subst hM
  cases d with
  | zero => exact j_none
  | succ d =>
    refine j_aload_n K dX1_isRed_0 rfl ?_
    refine j_iload_n K dX1_isRed_1 rfl ?_
    refine j_callVX _ K hxt (sim_X1_inTree hG hl d p1 w fp1) dX1_isRed_2 rfl rfl q639 q641 qs20 q93 q642 pm_X1_inTree rfl rfl rfl rfl rfl (fun wr1 r1 _ => ?_)
    refine j_nn (fun a2 ha2 => ?_)
    refine j_getZ (k := 5) K dX1_isRed_5 rfl rfl rfl q550 rfl rfl rfl ha2 ?_
    exact j_zretX K hr dX1_isRed_8

theorem pm_X1_subtreeSize : yX1_subtreeSize.cls = RX1 ∧ yX1_subtreeSize.cls ≠ "java/lang/invoke/MethodHandle" ∧ yX1_subtreeSize.cls ≠ "java/lang/invoke/VarHandle" ∧ (parseMethodDescriptor yX1_subtreeSize.desc).map (fun d => d.parameters.length) = some 1 := by decide +kernel
def f_X1_subtreeSize (d : Nat) (p1 : Int32) (w : Wd) : Option (Wd × (Int32 ⊕ Nat)) :=
  match d with
  | 0 => none
  | d + 1 =>
    bX (f_X1_inTree d p1 w) fun wr1 r1 =>
    (r1).bind fun a2 =>
    some (wr1, .inl (gI wr1 a2 10))
theorem sim_X1_subtreeSize {G : Gx} (hG : GW G) {l : Launch} (hl : l.stackTraces = false) (d : Nat) (p1 : Int32) (w : Wd) (fp1 : Bool) : Mt G true l yX1_subtreeSize (ws_ yX1_subtreeSize cX1_subtreeSize 2 (some .int)) d (rrX G pI) [aR 1 (some 8), aB fp1 p1] w (f_X1_subtreeSize d p1 w) := by
  refine Mt.of (own := "IntervalTree") hG hl (by decide +kernel) rfl rfl ?_
  intro M hM hr hnm hxt hnd K
  subst hM
  cases d with
  | zero => exact j_none
  | succ d =>
    refine j_aload_n K dX1_subtreeSize_0 rfl ?_
    refine j_iload_n K dX1_subtreeSize_1 rfl ?_
    refine j_callVX _ K hxt (sim_X1_inTree hG hl d p1 w fp1) dX1_subtreeSize_2 rfl rfl q639 q641 qs20 q93 q642 pm_X1_inTree rfl rfl rfl rfl rfl (fun wr1 r1 _ => ?_)
    refine j_nn (fun a2 ha2 => ?_)
    refine j_getI (k := 10) K dX1_subtreeSize_5 rfl rfl rfl q559 rfl rfl ha2 ?_
    exact j_iretX K hr dX1_subtreeSize_8

theorem pm_X1_withLive : yX1_withLive.cls = RX1 ∧ yX1_withLive.cls ≠ "java/lang/invoke/MethodHandle" ∧ yX1_withLive.cls ≠ "java/lang/invoke/VarHandle" ∧ (parseMethodDescriptor yX1_withLive.desc).map (fun d => d.parameters.length) = some 1 := by decide +kernel
def f_X1_withLive (d : Nat) (p1 : Int32) (w : Wd) : Option (Wd × (Option Nat ⊕ Nat)) :=
  match d with
  | 0 => none
  | d + 1 =>
    bX (f_X1_inTree d p1 w) fun wr1 r1 =>
    (r1).bind fun a2 =>
    if (gI wr1 a2 10) = 0 then
      if 8 ≤ d then
        if room wr1 6 = true then
          some (nw wr1 41 0 6, .inr (gN wr1))
        else none
      else none
    else
      some (wr1, .inl r1)
theorem sim_X1_withLive {G : Gx} (hG : GW G) {l : Launch} (hl : l.stackTraces = false) (d : Nat) (p1 : Int32) (w : Wd) (fp1 : Bool) : Mt G true l yX1_withLive (ws_ yX1_withLive cX1_withLive 3 (some (.object "IntervalTree$Node"))) d (rrX G (pR 4)) [aR 1 (some 8), aB fp1 p1] w (f_X1_withLive d p1 w) := by
  refine Mt.of (own := "IntervalTree") hG hl (by decide +kernel) rfl rfl ?_
  intro M hM hr hnm hxt hnd K
  subst hM
  cases d with
  | zero => exact j_none
  | succ d =>
    refine j_aload_n K dX1_withLive_0 rfl ?_
    refine j_iload_n K dX1_withLive_1 rfl ?_
    refine j_callVX _ K hxt (sim_X1_inTree hG hl d p1 w fp1) dX1_withLive_2 rfl rfl q639 q641 qs20 q93 q642 pm_X1_inTree rfl rfl rfl rfl rfl (fun wr1 r1 _ => ?_)
    refine j_astore_n K dX1_withLive_5 rfl rfl ?_
    refine j_aload_n K dX1_withLive_6 rfl ?_
    refine j_nn (fun a2 ha2 => ?_)
    refine j_getI (k := 10) K dX1_withLive_7 rfl rfl rfl q559 rfl rfl ha2 ?_
    refine j_if_ne 24 K dX1_withLive_10 (by decide) ?_ ?_
    · refine j_aload_n K dX1_withLive_24 rfl ?_
      exact j_aretX K hr (Or.inl ⟨_, rfl⟩) dX1_withLive_25
    · refine j_dp (fun h83 => ?_)
      refine j_rm (fun hr4 => ?_)
      refine j_mkW (kd := 41) K rfl (by decide +kernel) (by decide +kernel) rfl q520 q100 q772 at_X1_41_1 at_X1_41_2 at_X1_41_3 rfl dX1_withLive_13 dX1_withLive_16 dX1_withLive_17 dX1_withLive_20 (Nat.le_succ_of_le h83) hr4 rfl ?_
      refine j_athrow K dX1_withLive_23 ?_
      exact j_outN K hxt rfl

theorem pm_X1_subtreeHigh : yX1_subtreeHigh.cls = RX1 ∧ yX1_subtreeHigh.cls ≠ "java/lang/invoke/MethodHandle" ∧ yX1_subtreeHigh.cls ≠ "java/lang/invoke/VarHandle" ∧ (parseMethodDescriptor yX1_subtreeHigh.desc).map (fun d => d.parameters.length) = some 1 := by decide +kernel
def f_X1_subtreeHigh (d : Nat) (p1 : Int32) (w : Wd) : Option (Wd × (Int32 ⊕ Nat)) :=
  match d with
  | 0 => none
  | d + 1 =>
    bX (f_X1_withLive d p1 w) fun wr1 r1 =>
    (r1).bind fun a2 =>
    some (wr1, .inl (gI wr1 a2 11))
theorem sim_X1_subtreeHigh {G : Gx} (hG : GW G) {l : Launch} (hl : l.stackTraces = false) (d : Nat) (p1 : Int32) (w : Wd) (fp1 : Bool) : Mt G true l yX1_subtreeHigh (ws_ yX1_subtreeHigh cX1_subtreeHigh 2 (some .int)) d (rrX G pI) [aR 1 (some 8), aB fp1 p1] w (f_X1_subtreeHigh d p1 w) := by
  refine Mt.of (own := "IntervalTree") hG hl (by decide +kernel) rfl rfl ?_
  intro M hM hr hnm hxt hnd K
  subst hM
  cases d with
  | zero => exact j_none
  | succ d =>
    refine j_aload_n K dX1_subtreeHigh_0 rfl ?_
    refine j_iload_n K dX1_subtreeHigh_1 rfl ?_
    refine j_callVX _ K hxt (sim_X1_withLive hG hl d p1 w fp1) dX1_subtreeHigh_2 rfl rfl q768 q770 qs26 q93 q771 pm_X1_withLive rfl rfl rfl rfl rfl (fun wr1 r1 _ => ?_)
    refine j_nn (fun a2 ha2 => ?_)
    refine j_getI (k := 11) K dX1_subtreeHigh_5 rfl rfl rfl q561 rfl rfl ha2 ?_
    exact j_iretX K hr dX1_subtreeHigh_8

theorem pm_X1_subtreeWeight : yX1_subtreeWeight.cls = RX1 ∧ yX1_subtreeWeight.cls ≠ "java/lang/invoke/MethodHandle" ∧ yX1_subtreeWeight.cls ≠ "java/lang/invoke/VarHandle" ∧ (parseMethodDescriptor yX1_subtreeWeight.desc).map (fun d => d.parameters.length) = some 1 := by decide +kernel
def f_X1_subtreeWeight (d : Nat) (p1 : Int32) (w : Wd) : Option (Wd × (Int32 ⊕ Nat)) :=
  match d with
  | 0 => none
  | d + 1 =>
    bX (f_X1_withLive d p1 w) fun wr1 r1 =>
    (r1).bind fun a2 =>
    (f_X1_weightOf d r1 wr1).bind fun r3 =>
    some (r3.1, .inl (((gI wr1 a2 12) + r3.2) - (gI r3.1 a2 3)))
theorem sim_X1_subtreeWeight {G : Gx} (hG : GW G) {l : Launch} (hl : l.stackTraces = false) (d : Nat) (p1 : Int32) (w : Wd) (fp1 : Bool) : Mt G true l yX1_subtreeWeight (ws_ yX1_subtreeWeight cX1_subtreeWeight 3 (some .int)) d (rrX G pI) [aR 1 (some 8), aB fp1 p1] w (f_X1_subtreeWeight d p1 w) := by
  refine Mt.of (own := "IntervalTree") hG hl (by decide +kernel) rfl rfl ?_
  intro M hM hr hnm hxt hnd K
  subst hM
  cases d with
  | zero => exact j_none
  | succ d =>
    refine j_aload_n K dX1_subtreeWeight_0 rfl ?_
    refine j_iload_n K dX1_subtreeWeight_1 rfl ?_
    refine j_callVX _ K hxt (sim_X1_withLive hG hl d p1 w fp1) dX1_subtreeWeight_2 rfl rfl q768 q770 qs26 q93 q771 pm_X1_withLive rfl rfl rfl rfl rfl (fun wr1 r1 _ => ?_)
    refine j_astore_n K dX1_subtreeWeight_5 rfl rfl ?_
    refine j_aload_n K dX1_subtreeWeight_6 rfl ?_
    refine j_nn (fun a2 ha2 => ?_)
    refine j_getI (k := 12) K dX1_subtreeWeight_7 rfl rfl rfl q563 rfl rfl ha2 ?_
    refine j_aload_n K dX1_subtreeWeight_10 rfl ?_
    refine j_aload_n K dX1_subtreeWeight_11 rfl ?_
    refine j_callV _ K (sim_X1_weightOf hG hl d r1 wr1) dX1_subtreeWeight_12 rfl rfl q732 q137 qs0 q93 q138 pm_X1_weightOf rfl rfl rfl rfl rfl (fun r3 _ => ?_)
    refine j_iadd K dX1_subtreeWeight_15 ?_
    refine j_aload_n K dX1_subtreeWeight_16 rfl ?_
    refine j_getI (k := 3) K dX1_subtreeWeight_17 rfl rfl rfl q547 rfl rfl ha2 ?_
    refine j_isub K dX1_subtreeWeight_20 ?_
    exact j_iretX K hr dX1_subtreeWeight_21

theorem pm_X1_isHeavier : yX1_isHeavier.cls = RX1 ∧ yX1_isHeavier.cls ≠ "java/lang/invoke/MethodHandle" ∧ yX1_isHeavier.cls ≠ "java/lang/invoke/VarHandle" ∧ (parseMethodDescriptor yX1_isHeavier.desc).map (fun d => d.parameters.length) = some 2 := by decide +kernel
def f_X1_isHeavier (d : Nat) (p1 : Option Nat) (p2 : Option Nat) (w : Wd) : Option (Wd × Int32) :=
  match d with
  | 0 => none
  | d + 1 =>
    (p1).bind fun a1 =>
    (p2).bind fun a2 =>
    if (gI w a1 3) = (gI w a2 3) then
      if (gI w a2 0) ≤ (gI w a1 0) then
        some (w, 0)
      else
        some (w, 1)
    else
      if (gI w a1 3) ≤ (gI w a2 3) then
        some (w, 0)
      else
        some (w, 1)
theorem sim_X1_isHeavier {G : Gx} (hG : GW G) {l : Launch} (hl : l.stackTraces = false) (d : Nat) (p1 : Option Nat) (p2 : Option Nat) (w : Wd) : Mt G true l yX1_isHeavier (ws_ yX1_isHeavier cX1_isHeavier 2 (some .boolean)) d (rrV G pZ) [aR 4 p1, aR 4 p2] w (f_X1_isHeavier d p1 p2 w) := by
  refine Mt.of (own := "IntervalTree") hG hl (by decide +kernel) rfl rfl ?_
  intro M hM hr hnm hxt hnd K
  subst hM
  cases d with
  | zero => exact j_none
  | succ d =>
    refine j_aload_n K dX1_isHeavier_0 rfl ?_
    refine j_nn (fun a1 ha1 => ?_)
    refine j_getI (k := 3) K dX1_isHeavier_1 rfl rfl rfl q547 rfl rfl ha1 ?_
    refine j_aload_n K dX1_isHeavier_4 rfl ?_
    refine j_nn (fun a2 ha2 => ?_)
    refine j_getI (k := 3) K dX1_isHeavier_5 rfl rfl rfl q547 rfl rfl ha2 ?_
    refine j_icmp_eq 30 K dX1_isHeavier_8 (by decide) ?_ ?_
    · refine j_aload_n K dX1_isHeavier_30 rfl ?_
      refine j_getI (k := 0) K dX1_isHeavier_31 rfl rfl rfl q541 rfl rfl ha1 ?_
      refine j_aload_n K dX1_isHeavier_34 rfl ?_
      refine j_getI (k := 0) K dX1_isHeavier_35 rfl rfl rfl q541 rfl rfl ha2 ?_
      refine j_icmp_ge 45 K dX1_isHeavier_38 (by decide) ?_ ?_
      · refine j_iconstZ K dX1_isHeavier_45 rfl (Or.inl rfl) ?_
        exact j_zret K hr dX1_isHeavier_46
      · refine j_iconstZ K dX1_isHeavier_41 rfl (Or.inr rfl) ?_
        refine j_goto 46 K dX1_isHeavier_42 (by decide) ?_
        exact j_zret K hr dX1_isHeavier_46
    · refine j_aload_n K dX1_isHeavier_11 rfl ?_
      refine j_getI (k := 3) K dX1_isHeavier_12 rfl rfl rfl q547 rfl rfl ha1 ?_
      refine j_aload_n K dX1_isHeavier_15 rfl ?_
      refine j_getI (k := 3) K dX1_isHeavier_16 rfl rfl rfl q547 rfl rfl ha2 ?_
      refine j_icmp_le 26 K dX1_isHeavier_19 (by decide) ?_ ?_
      · refine j_iconstZ K dX1_isHeavier_26 rfl (Or.inl rfl) ?_
        refine j_goto 46 K dX1_isHeavier_27 (by decide) ?_
        exact j_zret K hr dX1_isHeavier_46
      · refine j_iconstZ K dX1_isHeavier_22 rfl (Or.inr rfl) ?_
        refine j_goto 46 K dX1_isHeavier_23 (by decide) ?_
        exact j_zret K hr dX1_isHeavier_46

theorem pm_X1_heaviestIn : yX1_heaviestIn.cls = RX1 ∧ yX1_heaviestIn.cls ≠ "java/lang/invoke/MethodHandle" ∧ yX1_heaviestIn.cls ≠ "java/lang/invoke/VarHandle" ∧ (parseMethodDescriptor yX1_heaviestIn.desc).map (fun d => d.parameters.length) = some 5 := by decide +kernel
def b_X1_heaviestIn_106 (d : Nat) (g_X1_heaviestIn : Option Nat → Int32 → Int32 → Option Nat → Option Nat → Wd → Option (Wd × Option Nat)) (x1 : Option Nat) (x2 : Int32) (x3 : Int32) (x4 : Option Nat) (x6 : Option Nat) (w : Wd) : Option (Wd × Option Nat) :=
  (x1).bind fun a5 =>
  (g_X1_heaviestIn (gR w a5 8) x2 x3 x4 x6 w).bind fun r6 =>
  if (gI r6.1 a5 1) ≤ x3 then
    (g_X1_heaviestIn (gR r6.1 a5 9) x2 x3 x4 r6.2 r6.1).bind fun r7 =>
    some (r7.1, r7.2)
  else
    some (r6.1, r6.2)
def b_X1_heaviestIn_103 (d : Nat) (g_X1_heaviestIn : Option Nat → Int32 → Int32 → Option Nat → Option Nat → Wd → Option (Wd × Option Nat)) (x1 : Option Nat) (x2 : Int32) (x3 : Int32) (x4 : Option Nat) (w : Wd) : Option (Wd × Option Nat) :=
  b_X1_heaviestIn_106 d g_X1_heaviestIn x1 x2 x3 x4 x1 w
def b_X1_heaviestIn_66 (d : Nat) (g_X1_heaviestIn : Option Nat → Int32 → Int32 → Option Nat → Option Nat → Wd → Option (Wd × Option Nat)) (x1 : Option Nat) (x2 : Int32) (x3 : Int32) (x4 : Option Nat) (x6 : Option Nat) (s0 : Int32) (w : Wd) : Option (Wd × Option Nat) :=
  (x1).bind fun a4 =>
  if (gI w a4 6) = 0 then
    (f_X4_overlaps d a4 x2 x3 w).bind fun r5 =>
    if r5.2 = 0 then
      b_X1_heaviestIn_106 d g_X1_heaviestIn x1 x2 x3 x4 x6 r5.1
    else
      if s0 = 0 then
        b_X1_heaviestIn_106 d g_X1_heaviestIn x1 x2 x3 x4 x6 r5.1
      else
        (x6).elim
          (b_X1_heaviestIn_103 d g_X1_heaviestIn x1 x2 x3 x4 r5.1)
          fun a6 =>
          (f_X1_isHeavier d x1 x6 r5.1).bind fun r7 =>
          if r7.2 = 0 then
            b_X1_heaviestIn_106 d g_X1_heaviestIn x1 x2 x3 x4 x6 r7.1
          else
            b_X1_heaviestIn_103 d g_X1_heaviestIn x1 x2 x3 x4 r7.1
  else
    b_X1_heaviestIn_106 d g_X1_heaviestIn x1 x2 x3 x4 x6 w
def b_X1_heaviestIn_61 (d : Nat) (g_X1_heaviestIn : Option Nat → Int32 → Int32 → Option Nat → Option Nat → Wd → Option (Wd × Option Nat)) (x1 : Option Nat) (x2 : Int32) (x3 : Int32) (x4 : Option Nat) (x6 : Option Nat) (w : Wd) : Option (Wd × Option Nat) :=
  b_X1_heaviestIn_66 d g_X1_heaviestIn x1 x2 x3 x4 x6 1 w
def b_X1_heaviestIn_39 (d : Nat) (g_X1_heaviestIn : Option Nat → Int32 → Int32 → Option Nat → Option Nat → Wd → Option (Wd × Option Nat)) (x1 : Option Nat) (x2 : Int32) (x3 : Int32) (x4 : Option Nat) (x5 : Option Nat) (w : Wd) : Option (Wd × Option Nat) :=
  (x1).bind fun a2 =>
  (f_X4_push d a2 w).bind fun r3 =>
  (x4).elim
    (b_X1_heaviestIn_61 d g_X1_heaviestIn x1 x2 x3 x4 x5 r3.1)
    fun a4 =>
    (f_X1_isHeavier d x4 x1 r3.1).bind fun r5 =>
    if r5.2 = 0 then
      b_X1_heaviestIn_66 d g_X1_heaviestIn x1 x2 x3 x4 x5 0 r5.1
    else
      b_X1_heaviestIn_61 d g_X1_heaviestIn x1 x2 x3 x4 x5 r5.1
def fB_X1_heaviestIn (d : Nat) (g_X1_heaviestIn : Option Nat → Int32 → Int32 → Option Nat → Option Nat → Wd → Option (Wd × Option Nat)) (p1 : Option Nat) (p2 : Int32) (p3 : Int32) (p4 : Option Nat) (p5 : Option Nat) (w : Wd) : Option (Wd × Option Nat) :=
  (p1).elim
    (some (w, p5))
    fun a1 =>
    if (gI w a1 10) = 0 then
      some (w, p5)
    else
      if (gI w a1 11) < p2 then
        some (w, p5)
      else
        (p5).elim
          (b_X1_heaviestIn_39 d g_X1_heaviestIn p1 p2 p3 p4 p5 w)
          fun a6 =>
          if (gI w a6 3) ≤ (gI w a1 12) then
            b_X1_heaviestIn_39 d g_X1_heaviestIn p1 p2 p3 p4 p5 w
          else
            some (w, p5)
theorem sb_X1_heaviestIn_106 {G : Gx} (hG : GW G) {M : Mx} (hl : (mL M).stackTraces = false) {w0 : Wd} {d : Nat} (K : Cx (G, true, M, 8, w0) cX1_heaviestIn "IntervalTree" (d + 1)) (hr : (mH M).sig.returnType = some (.object "IntervalTree$Node")) (hnm : (mH M).name = yX1_heaviestIn.name) (hxt : ∀ x ∈ (mC M).exceptionTable.toList, False) (hnd : (mS M).methodNamed? yX1_heaviestIn = some (mM M)) {g_X1_heaviestIn : Option Nat → Int32 → Int32 → Option Nat → Option Nat → Wd → Option (Wd × Option Nat)} (hg_X1_heaviestIn : ∀ (p1 : Option Nat) (p2 : Int32) (p3 : Int32) (p4 : Option Nat) (p5 : Option Nat) (w : Wd) (fp2 : Bool) (fp3 : Bool), Mt G true (mL M) yX1_heaviestIn (ws_ yX1_heaviestIn cX1_heaviestIn 8 (some (.object "IntervalTree$Node"))) d (rrV G (pR 4)) [aR 1 (some 8), aR 4 p1, aB fp2 p2, aB fp3 p3, aR 4 p4, aR 4 p5] w (g_X1_heaviestIn p1 p2 p3 p4 p5 w)) : ∀ (x1 : Option Nat) (x2 : Int32) (x3 : Int32) (x4 : Option Nat) (x6 : Option Nat) (w : Wd) (fx2 : Bool) (fx3 : Bool), Jf (G, true, M, 8, w0) (rrV G (pR 4)) (b_X1_heaviestIn_106 d g_X1_heaviestIn x1 x2 x3 x4 x6 w) w 106 [some (aR 1 (some 8)), some (aR 4 x1), some (aB fx2 x2), some (aB fx3 x3), some (aR 4 x4), none, some (aR 4 x6), none] [] := by
  intro x1 x2 x3 x4 x6 w fx2 fx3
  refine j_aload_n K dX1_heaviestIn_106 rfl ?_
  refine j_aload_n K dX1_heaviestIn_107 rfl ?_
  refine j_nn (fun a5 ha5 => ?_)
  refine j_getR (k := 8) K dX1_heaviestIn_108 rfl rfl rfl q555 rfl rfl (by decide) ha5 ?_
  refine j_iload_n K dX1_heaviestIn_111 rfl ?_
  refine j_iload_n K dX1_heaviestIn_112 rfl ?_
  refine j_aload K dX1_heaviestIn_113 rfl ?_
  refine j_aload K dX1_heaviestIn_115 rfl ?_
  refine j_callV _ K (hg_X1_heaviestIn (gR w a5 8) x2 x3 x4 x6 w fx2 fx3) dX1_heaviestIn_117 rfl rfl q791 q793 qs28 q93 q794 pm_X1_heaviestIn rfl rfl rfl rfl rfl (fun r6 _ => ?_)
  refine j_astore K dX1_heaviestIn_120 rfl rfl ?_
  refine j_aload_n K dX1_heaviestIn_122 rfl ?_
  refine j_getI (k := 1) K dX1_heaviestIn_123 rfl rfl rfl q543 rfl rfl ha5 ?_
  refine j_iload_n K dX1_heaviestIn_126 rfl ?_
  refine j_icmp_le 135 K dX1_heaviestIn_127 (by decide) ?_ ?_
  · refine j_aload_n K dX1_heaviestIn_135 rfl ?_
    refine j_aload_n K dX1_heaviestIn_136 rfl ?_
    refine j_getR (k := 9) K dX1_heaviestIn_137 rfl rfl rfl q557 rfl rfl (by decide) ha5 ?_
    refine j_iload_n K dX1_heaviestIn_140 rfl ?_
    refine j_iload_n K dX1_heaviestIn_141 rfl ?_
    refine j_aload K dX1_heaviestIn_142 rfl ?_
    refine j_aload K dX1_heaviestIn_144 rfl ?_
    refine j_callV _ K (hg_X1_heaviestIn (gR r6.1 a5 9) x2 x3 x4 r6.2 r6.1 fx2 fx3) dX1_heaviestIn_146 rfl rfl q791 q793 qs28 q93 q794 pm_X1_heaviestIn rfl rfl rfl rfl rfl (fun r7 _ => ?_)
    exact j_aret K hr (Or.inl ⟨_, rfl⟩) dX1_heaviestIn_149
  · refine j_aload K dX1_heaviestIn_130 rfl ?_
    refine j_goto 149 K dX1_heaviestIn_132 (by decide) ?_
    exact j_aret K hr (Or.inl ⟨_, rfl⟩) dX1_heaviestIn_149
theorem sb_X1_heaviestIn_103 {G : Gx} (hG : GW G) {M : Mx} (hl : (mL M).stackTraces = false) {w0 : Wd} {d : Nat} (K : Cx (G, true, M, 8, w0) cX1_heaviestIn "IntervalTree" (d + 1)) (hr : (mH M).sig.returnType = some (.object "IntervalTree$Node")) (hnm : (mH M).name = yX1_heaviestIn.name) (hxt : ∀ x ∈ (mC M).exceptionTable.toList, False) (hnd : (mS M).methodNamed? yX1_heaviestIn = some (mM M)) {g_X1_heaviestIn : Option Nat → Int32 → Int32 → Option Nat → Option Nat → Wd → Option (Wd × Option Nat)} (hg_X1_heaviestIn : ∀ (p1 : Option Nat) (p2 : Int32) (p3 : Int32) (p4 : Option Nat) (p5 : Option Nat) (w : Wd) (fp2 : Bool) (fp3 : Bool), Mt G true (mL M) yX1_heaviestIn (ws_ yX1_heaviestIn cX1_heaviestIn 8 (some (.object "IntervalTree$Node"))) d (rrV G (pR 4)) [aR 1 (some 8), aR 4 p1, aB fp2 p2, aB fp3 p3, aR 4 p4, aR 4 p5] w (g_X1_heaviestIn p1 p2 p3 p4 p5 w)) : ∀ (x1 : Option Nat) (x2 : Int32) (x3 : Int32) (x4 : Option Nat) (w : Wd) (fx2 : Bool) (fx3 : Bool), Jf (G, true, M, 8, w0) (rrV G (pR 4)) (b_X1_heaviestIn_103 d g_X1_heaviestIn x1 x2 x3 x4 w) w 103 [some (aR 1 (some 8)), some (aR 4 x1), some (aB fx2 x2), some (aB fx3 x3), some (aR 4 x4), none, none, none] [] := by
  intro x1 x2 x3 x4 w fx2 fx3
  refine j_aload_n K dX1_heaviestIn_103 rfl ?_
  refine j_astore K dX1_heaviestIn_104 rfl rfl ?_
  exact j_wk (sb_X1_heaviestIn_106 hG hl K hr hnm hxt hnd hg_X1_heaviestIn _ _ _ _ _ _ _ _) ⟨rfl, rfl, rfl, rfl, rfl, rfl, trivial⟩
theorem sb_X1_heaviestIn_66 {G : Gx} (hG : GW G) {M : Mx} (hl : (mL M).stackTraces = false) {w0 : Wd} {d : Nat} (K : Cx (G, true, M, 8, w0) cX1_heaviestIn "IntervalTree" (d + 1)) (hr : (mH M).sig.returnType = some (.object "IntervalTree$Node")) (hnm : (mH M).name = yX1_heaviestIn.name) (hxt : ∀ x ∈ (mC M).exceptionTable.toList, False) (hnd : (mS M).methodNamed? yX1_heaviestIn = some (mM M)) {g_X1_heaviestIn : Option Nat → Int32 → Int32 → Option Nat → Option Nat → Wd → Option (Wd × Option Nat)} (hg_X1_heaviestIn : ∀ (p1 : Option Nat) (p2 : Int32) (p3 : Int32) (p4 : Option Nat) (p5 : Option Nat) (w : Wd) (fp2 : Bool) (fp3 : Bool), Mt G true (mL M) yX1_heaviestIn (ws_ yX1_heaviestIn cX1_heaviestIn 8 (some (.object "IntervalTree$Node"))) d (rrV G (pR 4)) [aR 1 (some 8), aR 4 p1, aB fp2 p2, aB fp3 p3, aR 4 p4, aR 4 p5] w (g_X1_heaviestIn p1 p2 p3 p4 p5 w)) : ∀ (x1 : Option Nat) (x2 : Int32) (x3 : Int32) (x4 : Option Nat) (x6 : Option Nat) (s0 : Int32) (w : Wd) (fx2 : Bool) (fx3 : Bool), Jf (G, true, M, 8, w0) (rrV G (pR 4)) (b_X1_heaviestIn_66 d g_X1_heaviestIn x1 x2 x3 x4 x6 s0 w) w 66 [some (aR 1 (some 8)), some (aR 4 x1), some (aB fx2 x2), some (aB fx3 x3), some (aR 4 x4), none, some (aR 4 x6), none] [aB true s0] := by
  intro x1 x2 x3 x4 x6 s0 w fx2 fx3
  refine j_istore K dX1_heaviestIn_66 rfl rfl ?_
  refine j_aload_n K dX1_heaviestIn_68 rfl ?_
  refine j_nn (fun a4 ha4 => ?_)
  refine j_getZ (k := 6) K dX1_heaviestIn_69 rfl rfl rfl q552 rfl rfl rfl ha4 ?_
  refine j_if_ne 106 K dX1_heaviestIn_72 (by decide) ?_ ?_
  · exact j_wk (sb_X1_heaviestIn_106 hG hl K hr hnm hxt hnd hg_X1_heaviestIn _ _ _ _ _ _ _ _) ⟨rfl, rfl, rfl, rfl, rfl, rfl, trivial⟩
  · refine j_aload_n K dX1_heaviestIn_75 rfl ?_
    refine j_iload_n K dX1_heaviestIn_76 rfl ?_
    refine j_iload_n K dX1_heaviestIn_77 rfl ?_
    refine j_callV _ K (sim_X4_overlaps hG hl d a4 x2 x3 w fx2 fx3) dX1_heaviestIn_78 rfl rfl q151 q152 q153 q102 q154 pm_X4_overlaps rfl rfl rfl ha4 rfl (fun r5 _ => ?_)
    refine j_if_eq 106 K dX1_heaviestIn_81 (by decide) ?_ ?_
    · exact j_wk (sb_X1_heaviestIn_106 hG hl K hr hnm hxt hnd hg_X1_heaviestIn _ _ _ _ _ _ _ _) ⟨rfl, rfl, rfl, rfl, rfl, rfl, trivial⟩
    · refine j_iload K dX1_heaviestIn_84 rfl ?_
      refine j_if_eq 106 K dX1_heaviestIn_86 (by decide) ?_ ?_
      · exact j_wk (sb_X1_heaviestIn_106 hG hl K hr hnm hxt hnd hg_X1_heaviestIn _ _ _ _ _ _ _ _) ⟨rfl, rfl, rfl, rfl, rfl, rfl, trivial⟩
      · refine j_aload K dX1_heaviestIn_89 rfl ?_
        refine j_ifnull 103 K dX1_heaviestIn_91 (by decide) (fun _ => ?_) (fun a6 ha6 => ?_)
        · exact j_wk (sb_X1_heaviestIn_103 hG hl K hr hnm hxt hnd hg_X1_heaviestIn _ _ _ _ _ _ _) ⟨rfl, rfl, rfl, rfl, rfl, trivial⟩
        · refine j_aload_n K dX1_heaviestIn_94 rfl ?_
          refine j_aload K dX1_heaviestIn_95 rfl ?_
          refine j_callS _ K (sim_X1_isHeavier hG hl d x1 x6 r5.1) dX1_heaviestIn_97 q795 q796 q93 q797 pm_X1_isHeavier.2 rfl rfl rfl rfl (fun r7 _ => ?_)
          refine j_if_eq 106 K dX1_heaviestIn_100 (by decide) ?_ ?_
          · exact j_wk (sb_X1_heaviestIn_106 hG hl K hr hnm hxt hnd hg_X1_heaviestIn _ _ _ _ _ _ _ _) ⟨rfl, rfl, rfl, rfl, rfl, rfl, trivial⟩
          · exact j_wk (sb_X1_heaviestIn_103 hG hl K hr hnm hxt hnd hg_X1_heaviestIn _ _ _ _ _ _ _) ⟨rfl, rfl, rfl, rfl, rfl, trivial⟩
theorem sb_X1_heaviestIn_61 {G : Gx} (hG : GW G) {M : Mx} (hl : (mL M).stackTraces = false) {w0 : Wd} {d : Nat} (K : Cx (G, true, M, 8, w0) cX1_heaviestIn "IntervalTree" (d + 1)) (hr : (mH M).sig.returnType = some (.object "IntervalTree$Node")) (hnm : (mH M).name = yX1_heaviestIn.name) (hxt : ∀ x ∈ (mC M).exceptionTable.toList, False) (hnd : (mS M).methodNamed? yX1_heaviestIn = some (mM M)) {g_X1_heaviestIn : Option Nat → Int32 → Int32 → Option Nat → Option Nat → Wd → Option (Wd × Option Nat)} (hg_X1_heaviestIn : ∀ (p1 : Option Nat) (p2 : Int32) (p3 : Int32) (p4 : Option Nat) (p5 : Option Nat) (w : Wd) (fp2 : Bool) (fp3 : Bool), Mt G true (mL M) yX1_heaviestIn (ws_ yX1_heaviestIn cX1_heaviestIn 8 (some (.object "IntervalTree$Node"))) d (rrV G (pR 4)) [aR 1 (some 8), aR 4 p1, aB fp2 p2, aB fp3 p3, aR 4 p4, aR 4 p5] w (g_X1_heaviestIn p1 p2 p3 p4 p5 w)) : ∀ (x1 : Option Nat) (x2 : Int32) (x3 : Int32) (x4 : Option Nat) (x6 : Option Nat) (w : Wd) (fx2 : Bool) (fx3 : Bool), Jf (G, true, M, 8, w0) (rrV G (pR 4)) (b_X1_heaviestIn_61 d g_X1_heaviestIn x1 x2 x3 x4 x6 w) w 61 [some (aR 1 (some 8)), some (aR 4 x1), some (aB fx2 x2), some (aB fx3 x3), some (aR 4 x4), none, some (aR 4 x6), none] [] := by
  intro x1 x2 x3 x4 x6 w fx2 fx3
  refine j_iconstZ K dX1_heaviestIn_61 rfl (Or.inr rfl) ?_
  refine j_goto 66 K dX1_heaviestIn_62 (by decide) ?_
  exact j_wk (sb_X1_heaviestIn_66 hG hl K hr hnm hxt hnd hg_X1_heaviestIn _ _ _ _ _ _ _ _ _) ⟨rfl, rfl, rfl, rfl, rfl, rfl, trivial⟩
theorem sb_X1_heaviestIn_39 {G : Gx} (hG : GW G) {M : Mx} (hl : (mL M).stackTraces = false) {w0 : Wd} {d : Nat} (K : Cx (G, true, M, 8, w0) cX1_heaviestIn "IntervalTree" (d + 1)) (hr : (mH M).sig.returnType = some (.object "IntervalTree$Node")) (hnm : (mH M).name = yX1_heaviestIn.name) (hxt : ∀ x ∈ (mC M).exceptionTable.toList, False) (hnd : (mS M).methodNamed? yX1_heaviestIn = some (mM M)) {g_X1_heaviestIn : Option Nat → Int32 → Int32 → Option Nat → Option Nat → Wd → Option (Wd × Option Nat)} (hg_X1_heaviestIn : ∀ (p1 : Option Nat) (p2 : Int32) (p3 : Int32) (p4 : Option Nat) (p5 : Option Nat) (w : Wd) (fp2 : Bool) (fp3 : Bool), Mt G true (mL M) yX1_heaviestIn (ws_ yX1_heaviestIn cX1_heaviestIn 8 (some (.object "IntervalTree$Node"))) d (rrV G (pR 4)) [aR 1 (some 8), aR 4 p1, aB fp2 p2, aB fp3 p3, aR 4 p4, aR 4 p5] w (g_X1_heaviestIn p1 p2 p3 p4 p5 w)) : ∀ (x1 : Option Nat) (x2 : Int32) (x3 : Int32) (x4 : Option Nat) (x5 : Option Nat) (w : Wd) (fx2 : Bool) (fx3 : Bool), Jf (G, true, M, 8, w0) (rrV G (pR 4)) (b_X1_heaviestIn_39 d g_X1_heaviestIn x1 x2 x3 x4 x5 w) w 39 [some (aR 1 (some 8)), some (aR 4 x1), some (aB fx2 x2), some (aB fx3 x3), some (aR 4 x4), some (aR 4 x5), none, none] [] := by
  intro x1 x2 x3 x4 x5 w fx2 fx3
  refine j_aload_n K dX1_heaviestIn_39 rfl ?_
  refine j_nn (fun a2 ha2 => ?_)
  refine j_callV _ K (sim_X4_push hG hl d a2 w) dX1_heaviestIn_40 rfl rfl q312 q313 q314 q102 q315 pm_X4_push rfl rfl rfl ha2 rfl (fun r3 _ => ?_)
  refine j_aload K dX1_heaviestIn_43 rfl ?_
  refine j_astore K dX1_heaviestIn_45 rfl rfl ?_
  refine j_aload K dX1_heaviestIn_47 rfl ?_
  refine j_ifnull 61 K dX1_heaviestIn_49 (by decide) (fun _ => ?_) (fun a4 ha4 => ?_)
  · exact j_wk (sb_X1_heaviestIn_61 hG hl K hr hnm hxt hnd hg_X1_heaviestIn _ _ _ _ _ _ _ _) ⟨rfl, rfl, rfl, rfl, rfl, rfl, trivial⟩
  · refine j_aload K dX1_heaviestIn_52 rfl ?_
    refine j_aload_n K dX1_heaviestIn_54 rfl ?_
    refine j_callS _ K (sim_X1_isHeavier hG hl d x4 x1 r3.1) dX1_heaviestIn_55 q795 q796 q93 q797 pm_X1_isHeavier.2 rfl rfl rfl rfl (fun r5 _ => ?_)
    refine j_if_eq 65 K dX1_heaviestIn_58 (by decide) ?_ ?_
    · refine j_iconstZ K dX1_heaviestIn_65 rfl (Or.inl rfl) ?_
      exact j_wk (sb_X1_heaviestIn_66 hG hl K hr hnm hxt hnd hg_X1_heaviestIn _ _ _ _ _ _ _ _ _) ⟨rfl, rfl, rfl, rfl, rfl, rfl, trivial⟩
    · exact j_wk (sb_X1_heaviestIn_61 hG hl K hr hnm hxt hnd hg_X1_heaviestIn _ _ _ _ _ _ _ _) ⟨rfl, rfl, rfl, rfl, rfl, rfl, trivial⟩
theorem simB_X1_heaviestIn {G : Gx} (hG : GW G) {l : Launch} (hl : l.stackTraces = false) (d : Nat) {g_X1_heaviestIn : Option Nat → Int32 → Int32 → Option Nat → Option Nat → Wd → Option (Wd × Option Nat)} (hg_X1_heaviestIn : ∀ (p1 : Option Nat) (p2 : Int32) (p3 : Int32) (p4 : Option Nat) (p5 : Option Nat) (w : Wd) (fp2 : Bool) (fp3 : Bool), Mt G true l yX1_heaviestIn (ws_ yX1_heaviestIn cX1_heaviestIn 8 (some (.object "IntervalTree$Node"))) d (rrV G (pR 4)) [aR 1 (some 8), aR 4 p1, aB fp2 p2, aB fp3 p3, aR 4 p4, aR 4 p5] w (g_X1_heaviestIn p1 p2 p3 p4 p5 w)) (p1 : Option Nat) (p2 : Int32) (p3 : Int32) (p4 : Option Nat) (p5 : Option Nat) (w : Wd) (fp2 : Bool) (fp3 : Bool) : Mt G true l yX1_heaviestIn (ws_ yX1_heaviestIn cX1_heaviestIn 8 (some (.object "IntervalTree$Node"))) (d + 1) (rrV G (pR 4)) [aR 1 (some 8), aR 4 p1, aB fp2 p2, aB fp3 p3, aR 4 p4, aR 4 p5] w (fB_X1_heaviestIn d g_X1_heaviestIn p1 p2 p3 p4 p5 w) := by
  refine Mt.of (own := "IntervalTree") hG hl (by decide +kernel) rfl rfl ?_
  intro M hM hr hnm hxt hnd K
  subst hM
  refine j_aload_n K dX1_heaviestIn_0 rfl ?_
  refine j_ifnull 36 K dX1_heaviestIn_1 (by decide) (fun _ => ?_) (fun a1 ha1 => ?_)
  · refine j_aload K dX1_heaviestIn_36 rfl ?_
    exact j_aret K hr (Or.inl ⟨_, rfl⟩) dX1_heaviestIn_38
  · refine j_aload_n K dX1_heaviestIn_4 rfl ?_
    refine j_getI (k := 10) K dX1_heaviestIn_5 rfl rfl rfl q559 rfl rfl ha1 ?_
    refine j_if_eq 36 K dX1_heaviestIn_8 (by decide) ?_ ?_
    · refine j_aload K dX1_heaviestIn_36 rfl ?_
      exact j_aret K hr (Or.inl ⟨_, rfl⟩) dX1_heaviestIn_38
    · refine j_aload_n K dX1_heaviestIn_11 rfl ?_
      refine j_getI (k := 11) K dX1_heaviestIn_12 rfl rfl rfl q561 rfl rfl ha1 ?_
      refine j_iload_n K dX1_heaviestIn_15 rfl ?_
      refine j_icmp_lt 36 K dX1_heaviestIn_16 (by decide) ?_ ?_
      · refine j_aload K dX1_heaviestIn_36 rfl ?_
        exact j_aret K hr (Or.inl ⟨_, rfl⟩) dX1_heaviestIn_38
      · refine j_aload K dX1_heaviestIn_19 rfl ?_
        refine j_ifnull 39 K dX1_heaviestIn_21 (by decide) (fun _ => ?_) (fun a6 ha6 => ?_)
        · exact j_wk (sb_X1_heaviestIn_39 hG hl K hr hnm hxt hnd hg_X1_heaviestIn _ _ _ _ _ _ _ _) ⟨rfl, rfl, rfl, rfl, rfl, rfl, trivial⟩
        · refine j_aload_n K dX1_heaviestIn_24 rfl ?_
          refine j_getI (k := 12) K dX1_heaviestIn_25 rfl rfl rfl q563 rfl rfl ha1 ?_
          refine j_aload K dX1_heaviestIn_28 rfl ?_
          refine j_getI (k := 3) K dX1_heaviestIn_30 rfl rfl rfl q547 rfl rfl ha6 ?_
          refine j_icmp_ge 39 K dX1_heaviestIn_33 (by decide) ?_ ?_
          · exact j_wk (sb_X1_heaviestIn_39 hG hl K hr hnm hxt hnd hg_X1_heaviestIn _ _ _ _ _ _ _ _) ⟨rfl, rfl, rfl, rfl, rfl, rfl, trivial⟩
          · refine j_aload K dX1_heaviestIn_36 rfl ?_
            exact j_aret K hr (Or.inl ⟨_, rfl⟩) dX1_heaviestIn_38
def f_X1_heaviestIn : Nat → Option Nat → Int32 → Int32 → Option Nat → Option Nat → Wd → Option (Wd × Option Nat)
  | 0 => fun _ _ _ _ _ _ => none
  | d + 1 => fB_X1_heaviestIn d (f_X1_heaviestIn d)
theorem sim_X1_heaviestIn {G : Gx} (hG : GW G) {l : Launch} (hl : l.stackTraces = false) : ∀ (d : Nat) (p1 : Option Nat) (p2 : Int32) (p3 : Int32) (p4 : Option Nat) (p5 : Option Nat) (w : Wd) (fp2 : Bool) (fp3 : Bool), Mt G true l yX1_heaviestIn (ws_ yX1_heaviestIn cX1_heaviestIn 8 (some (.object "IntervalTree$Node"))) d (rrV G (pR 4)) [aR 1 (some 8), aR 4 p1, aB fp2 p2, aB fp3 p3, aR 4 p4, aR 4 p5] w (f_X1_heaviestIn d p1 p2 p3 p4 p5 w) := by
  intro d
  induction d with
  | zero => intros; exact fun _ h => by cases h
  | succ d ih => exact simB_X1_heaviestIn hG hl d ih

theorem pm_X1_ranked : yX1_ranked.cls = RX1 ∧ yX1_ranked.cls ≠ "java/lang/invoke/MethodHandle" ∧ yX1_ranked.cls ≠ "java/lang/invoke/VarHandle" ∧ (parseMethodDescriptor yX1_ranked.desc).map (fun d => d.parameters.length) = some 3 := by decide +kernel
def b_X1_ranked_10 (d : Nat) : Nat → Int32 → Int32 → Int32 → Option Nat → Int32 → Wd → Option (Wd × Int32)
  | 0, _, _, _, _, _, _ => none
  | n + 1, x1, x2, x3, x4, x5, w =>
    if x3 < x5 then
      (x4).bind fun a2 =>
      some (w, (gI w a2 0))
    else
      (f_X1_heaviestIn d (gR w 8 4) x1 x2 x4 none w).bind fun r3 =>
      (r3.2).elim
        (some (r3.1, (-1)))
        fun a4 =>
        b_X1_ranked_10 d n x1 x2 x3 r3.2 (x5 + 1) r3.1
def f_X1_ranked (d : Nat) (p1 : Int32) (p2 : Int32) (p3 : Int32) (w : Wd) : Option (Wd × Int32) :=
  match d with
  | 0 => none
  | d + 1 =>
    (f_X1_collectLive d w).bind fun r1 =>
    b_X1_ranked_10 d FU p1 p2 p3 none 0 r1.1
theorem sb_X1_ranked_10 {G : Gx} (hG : GW G) {M : Mx} (hl : (mL M).stackTraces = false) {w0 : Wd} {d : Nat} (K : Cx (G, true, M, 6, w0) cX1_ranked "IntervalTree" (d + 1)) (hr : (mH M).sig.returnType = some .int) (hnm : (mH M).name = yX1_ranked.name) (hxt : ∀ x ∈ (mC M).exceptionTable.toList, False) (hnd : (mS M).methodNamed? yX1_ranked = some (mM M)) : ∀ (n : Nat), ∀ (x1 : Int32) (x2 : Int32) (x3 : Int32) (x4 : Option Nat) (x5 : Int32) (w : Wd) (fx1 : Bool) (fx2 : Bool) (fx3 : Bool) (fx5 : Bool), Jf (G, true, M, 6, w0) (rrV G pI) (b_X1_ranked_10 d n x1 x2 x3 x4 x5 w) w 10 [some (aR 1 (some 8)), some (aB fx1 x1), some (aB fx2 x2), some (aB fx3 x3), some (aR 4 x4), some (aB fx5 x5)] [] := by
  intro n
  induction n with
  | zero => intros; exact j_none
  | succ n ih =>
    intro x1 x2 x3 x4 x5 w fx1 fx2 fx3 fx5
    refine j_iload K dX1_ranked_10 rfl ?_
    refine j_iload_n K dX1_ranked_12 rfl ?_
    refine j_icmp_gt 44 K dX1_ranked_13 (by decide) ?_ ?_
    · refine j_aload K dX1_ranked_44 rfl ?_
      refine j_nn (fun a2 ha2 => ?_)
      refine j_getI (k := 0) K dX1_ranked_46 rfl rfl rfl q541 rfl rfl ha2 ?_
      exact j_iret K hr dX1_ranked_49
    · refine j_aload_n K dX1_ranked_16 rfl ?_
      refine j_aload_n K dX1_ranked_17 rfl ?_
      refine j_getR (k := 4) K dX1_ranked_18 rfl rfl rfl q185 rfl rfl (by decide) rfl ?_
      refine j_iload_n K dX1_ranked_21 rfl ?_
      refine j_iload_n K dX1_ranked_22 rfl ?_
      refine j_aload K dX1_ranked_23 rfl ?_
      refine j_null 4 K dX1_ranked_25 ?_
      refine j_callV _ K (sim_X1_heaviestIn hG hl d (gR w 8 4) x1 x2 x4 none w fx1 fx2) dX1_ranked_26 rfl rfl q791 q793 qs28 q93 q794 pm_X1_heaviestIn rfl rfl rfl rfl rfl (fun r3 _ => ?_)
      refine j_astore K dX1_ranked_29 rfl rfl ?_
      refine j_aload K dX1_ranked_31 rfl ?_
      refine j_ifnonnull 38 K dX1_ranked_33 (by decide) (fun a4 ha4 => ?_) (fun _ => ?_)
      · refine j_iinc (y := 1) K dX1_ranked_38 rfl rfl rfl rfl ?_
        refine j_goto 10 K dX1_ranked_41 (by decide) ?_
        exact ih _ _ _ _ _ _ _ _ _ _
      · refine j_iconst (x := (-1)) K dX1_ranked_36 rfl ?_
        exact j_iret K hr dX1_ranked_37
theorem sim_X1_ranked {G : Gx} (hG : GW G) {l : Launch} (hl : l.stackTraces = false) (d : Nat) (p1 : Int32) (p2 : Int32) (p3 : Int32) (w : Wd) (fp1 : Bool) (fp2 : Bool) (fp3 : Bool) : Mt G true l yX1_ranked (ws_ yX1_ranked cX1_ranked 6 (some .int)) d (rrV G pI) [aR 1 (some 8), aB fp1 p1, aB fp2 p2, aB fp3 p3] w (f_X1_ranked d p1 p2 p3 w) := by
  refine Mt.of (own := "IntervalTree") hG hl (by decide +kernel) rfl rfl ?_
  intro M hM hr hnm hxt hnd K
  subst hM
  cases d with
  | zero => exact j_none
  | succ d =>
    refine j_aload_n K dX1_ranked_0 rfl ?_
    refine j_callV _ K (sim_X1_collectLive hG hl d w) dX1_ranked_1 rfl rfl q297 q299 qs3 q93 q300 pm_X1_collectLive rfl rfl rfl rfl rfl (fun r1 _ => ?_)
    refine j_null 4 K dX1_ranked_4 ?_
    refine j_astore K dX1_ranked_5 rfl rfl ?_
    refine j_iconstZ K dX1_ranked_7 rfl (Or.inl rfl) ?_
    refine j_istore K dX1_ranked_8 rfl rfl ?_
    exact sb_X1_ranked_10 hG hl K hr hnm hxt hnd FU _ _ _ _ _ _ _ _ _ _

theorem pm_X1_heaviest : yX1_heaviest.cls = RX1 ∧ yX1_heaviest.cls ≠ "java/lang/invoke/MethodHandle" ∧ yX1_heaviest.cls ≠ "java/lang/invoke/VarHandle" ∧ (parseMethodDescriptor yX1_heaviest.desc).map (fun d => d.parameters.length) = some 2 := by decide +kernel
def b_X1_heaviest_9 (d : Nat) (x1 : Int32) (x2 : Int32) (s0 : Int32) (w : Wd) : Option (Wd × (Int32 ⊕ Nat)) :=
  bX (f_X1_check d s0 w) fun wr1 r1 =>
  (f_X1_ranked d x1 x1 x2 wr1).bind fun r2 =>
  some (r2.1, .inl r2.2)
def f_X1_heaviest (d : Nat) (p1 : Int32) (p2 : Int32) (w : Wd) : Option (Wd × (Int32 ⊕ Nat)) :=
  match d with
  | 0 => none
  | d + 1 =>
    if p2 < 0 then
      b_X1_heaviest_9 d p1 p2 0 w
    else
      b_X1_heaviest_9 d p1 p2 1 w
theorem sb_X1_heaviest_9 {G : Gx} (hG : GW G) {M : Mx} (hl : (mL M).stackTraces = false) {w0 : Wd} {d : Nat} (K : Cx (G, true, M, 3, w0) cX1_heaviest "IntervalTree" (d + 1)) (hr : (mH M).sig.returnType = some .int) (hnm : (mH M).name = yX1_heaviest.name) (hxt : ∀ x ∈ (mC M).exceptionTable.toList, False) (hnd : (mS M).methodNamed? yX1_heaviest = some (mM M)) : ∀ (x1 : Int32) (x2 : Int32) (s0 : Int32) (w : Wd) (fx1 : Bool) (fx2 : Bool), Jf (G, true, M, 3, w0) (rrX G pI) (b_X1_heaviest_9 d x1 x2 s0 w) w 9 [some (aR 1 (some 8)), some (aB fx1 x1), some (aB fx2 x2)] [aB true s0] := by
  intro x1 x2 s0 w fx1 fx2
  refine j_callSX _ K hxt (sim_X1_check hG hl d s0 w) dX1_heaviest_9 q447 q448 q93 q449 pm_X1_check.2 rfl rfl rfl rfl (fun wr1 r1 _ => ?_)
  refine j_aload_n K dX1_heaviest_12 rfl ?_
  refine j_iload_n K dX1_heaviest_13 rfl ?_
  refine j_iload_n K dX1_heaviest_14 rfl ?_
  refine j_iload_n K dX1_heaviest_15 rfl ?_
  refine j_callV _ K (sim_X1_ranked hG hl d x1 x1 x2 wr1 fx1 fx1 fx2) dX1_heaviest_16 rfl rfl q787 q789 qs27 q93 q790 pm_X1_ranked rfl rfl rfl rfl rfl (fun r2 _ => ?_)
  exact j_iretX K hr dX1_heaviest_19
theorem sim_X1_heaviest {G : Gx} (hG : GW G) {l : Launch} (hl : l.stackTraces = false) (d : Nat) (p1 : Int32) (p2 : Int32) (w : Wd) (fp1 : Bool) (fp2 : Bool) : Mt G true l yX1_heaviest (ws_ yX1_heaviest cX1_heaviest 3 (some .int)) d (rrX G pI) [aR 1 (some 8), aB fp1 p1, aB fp2 p2] w (f_X1_heaviest d p1 p2 w) := by
  refine Mt.of (own := "IntervalTree") hG hl (by decide +kernel) rfl rfl ?_
  intro M hM hr hnm hxt hnd K
  subst hM
  cases d with
  | zero => exact j_none
  | succ d =>
    refine j_iload_n K dX1_heaviest_0 rfl ?_
    refine j_if_lt 8 K dX1_heaviest_1 (by decide) ?_ ?_
    · refine j_iconstZ K dX1_heaviest_8 rfl (Or.inl rfl) ?_
      exact sb_X1_heaviest_9 hG hl K hr hnm hxt hnd _ _ _ _ _ _
    · refine j_iconstZ K dX1_heaviest_4 rfl (Or.inr rfl) ?_
      refine j_goto 9 K dX1_heaviest_5 (by decide) ?_
      exact sb_X1_heaviest_9 hG hl K hr hnm hxt hnd _ _ _ _ _ _

theorem pm_X1_heaviestOverlap : yX1_heaviestOverlap.cls = RX1 ∧ yX1_heaviestOverlap.cls ≠ "java/lang/invoke/MethodHandle" ∧ yX1_heaviestOverlap.cls ≠ "java/lang/invoke/VarHandle" ∧ (parseMethodDescriptor yX1_heaviestOverlap.desc).map (fun d => d.parameters.length) = some 3 := by decide +kernel
def b_X1_heaviestOverlap_14 (d : Nat) (x1 : Int32) (x2 : Int32) (x3 : Int32) (s0 : Int32) (w : Wd) : Option (Wd × (Int32 ⊕ Nat)) :=
  bX (f_X1_check d s0 w) fun wr1 r1 =>
  (f_X1_ranked d x1 x2 x3 wr1).bind fun r2 =>
  some (r2.1, .inl r2.2)
def b_X1_heaviestOverlap_13 (d : Nat) (x1 : Int32) (x2 : Int32) (x3 : Int32) (w : Wd) : Option (Wd × (Int32 ⊕ Nat)) :=
  b_X1_heaviestOverlap_14 d x1 x2 x3 0 w
def f_X1_heaviestOverlap (d : Nat) (p1 : Int32) (p2 : Int32) (p3 : Int32) (w : Wd) : Option (Wd × (Int32 ⊕ Nat)) :=
  match d with
  | 0 => none
  | d + 1 =>
    if p2 < p1 then
      b_X1_heaviestOverlap_13 d p1 p2 p3 w
    else
      if p3 < 0 then
        b_X1_heaviestOverlap_13 d p1 p2 p3 w
      else
        b_X1_heaviestOverlap_14 d p1 p2 p3 1 w
theorem sb_X1_heaviestOverlap_14 {G : Gx} (hG : GW G) {M : Mx} (hl : (mL M).stackTraces = false) {w0 : Wd} {d : Nat} (K : Cx (G, true, M, 4, w0) cX1_heaviestOverlap "IntervalTree" (d + 1)) (hr : (mH M).sig.returnType = some .int) (hnm : (mH M).name = yX1_heaviestOverlap.name) (hxt : ∀ x ∈ (mC M).exceptionTable.toList, False) (hnd : (mS M).methodNamed? yX1_heaviestOverlap = some (mM M)) : ∀ (x1 : Int32) (x2 : Int32) (x3 : Int32) (s0 : Int32) (w : Wd) (fx1 : Bool) (fx2 : Bool) (fx3 : Bool), Jf (G, true, M, 4, w0) (rrX G pI) (b_X1_heaviestOverlap_14 d x1 x2 x3 s0 w) w 14 [some (aR 1 (some 8)), some (aB fx1 x1), some (aB fx2 x2), some (aB fx3 x3)] [aB true s0] := by
  intro x1 x2 x3 s0 w fx1 fx2 fx3
  refine j_callSX _ K hxt (sim_X1_check hG hl d s0 w) dX1_heaviestOverlap_14 q447 q448 q93 q449 pm_X1_check.2 rfl rfl rfl rfl (fun wr1 r1 _ => ?_)
  refine j_aload_n K dX1_heaviestOverlap_17 rfl ?_
  refine j_iload_n K dX1_heaviestOverlap_18 rfl ?_
  refine j_iload_n K dX1_heaviestOverlap_19 rfl ?_
  refine j_iload_n K dX1_heaviestOverlap_20 rfl ?_
  refine j_callV _ K (sim_X1_ranked hG hl d x1 x2 x3 wr1 fx1 fx2 fx3) dX1_heaviestOverlap_21 rfl rfl q787 q789 qs27 q93 q790 pm_X1_ranked rfl rfl rfl rfl rfl (fun r2 _ => ?_)
  exact j_iretX K hr dX1_heaviestOverlap_24
theorem sb_X1_heaviestOverlap_13 {G : Gx} (hG : GW G) {M : Mx} (hl : (mL M).stackTraces = false) {w0 : Wd} {d : Nat} (K : Cx (G, true, M, 4, w0) cX1_heaviestOverlap "IntervalTree" (d + 1)) (hr : (mH M).sig.returnType = some .int) (hnm : (mH M).name = yX1_heaviestOverlap.name) (hxt : ∀ x ∈ (mC M).exceptionTable.toList, False) (hnd : (mS M).methodNamed? yX1_heaviestOverlap = some (mM M)) : ∀ (x1 : Int32) (x2 : Int32) (x3 : Int32) (w : Wd) (fx1 : Bool) (fx2 : Bool) (fx3 : Bool), Jf (G, true, M, 4, w0) (rrX G pI) (b_X1_heaviestOverlap_13 d x1 x2 x3 w) w 13 [some (aR 1 (some 8)), some (aB fx1 x1), some (aB fx2 x2), some (aB fx3 x3)] [] := by
  intro x1 x2 x3 w fx1 fx2 fx3
  refine j_iconstZ K dX1_heaviestOverlap_13 rfl (Or.inl rfl) ?_
  exact sb_X1_heaviestOverlap_14 hG hl K hr hnm hxt hnd _ _ _ _ _ _ _ _
theorem sim_X1_heaviestOverlap {G : Gx} (hG : GW G) {l : Launch} (hl : l.stackTraces = false) (d : Nat) (p1 : Int32) (p2 : Int32) (p3 : Int32) (w : Wd) (fp1 : Bool) (fp2 : Bool) (fp3 : Bool) : Mt G true l yX1_heaviestOverlap (ws_ yX1_heaviestOverlap cX1_heaviestOverlap 4 (some .int)) d (rrX G pI) [aR 1 (some 8), aB fp1 p1, aB fp2 p2, aB fp3 p3] w (f_X1_heaviestOverlap d p1 p2 p3 w) := by
  refine Mt.of (own := "IntervalTree") hG hl (by decide +kernel) rfl rfl ?_
  intro M hM hr hnm hxt hnd K
  subst hM
  cases d with
  | zero => exact j_none
  | succ d =>
    refine j_iload_n K dX1_heaviestOverlap_0 rfl ?_
    refine j_iload_n K dX1_heaviestOverlap_1 rfl ?_
    refine j_icmp_gt 13 K dX1_heaviestOverlap_2 (by decide) ?_ ?_
    · exact sb_X1_heaviestOverlap_13 hG hl K hr hnm hxt hnd _ _ _ _ _ _ _
    · refine j_iload_n K dX1_heaviestOverlap_5 rfl ?_
      refine j_if_lt 13 K dX1_heaviestOverlap_6 (by decide) ?_ ?_
      · exact sb_X1_heaviestOverlap_13 hG hl K hr hnm hxt hnd _ _ _ _ _ _ _
      · refine j_iconstZ K dX1_heaviestOverlap_9 rfl (Or.inr rfl) ?_
        refine j_goto 14 K dX1_heaviestOverlap_10 (by decide) ?_
        exact sb_X1_heaviestOverlap_14 hG hl K hr hnm hxt hnd _ _ _ _ _ _ _ _

theorem pm_X1_firstIn : yX1_firstIn.cls = RX1 ∧ yX1_firstIn.cls ≠ "java/lang/invoke/MethodHandle" ∧ yX1_firstIn.cls ≠ "java/lang/invoke/VarHandle" ∧ (parseMethodDescriptor yX1_firstIn.desc).map (fun d => d.parameters.length) = some 3 := by decide +kernel
def b_X1_firstIn_64 (d : Nat) (g_X1_firstIn : Option Nat → Int32 → Int32 → Wd → Option (Wd × Option Nat)) (x0 : Option Nat) (x1 : Int32) (x2 : Int32) (w : Wd) : Option (Wd × Option Nat) :=
  (x0).bind fun a3 =>
  (g_X1_firstIn (gR w a3 9) x1 x2 w).bind fun r4 =>
  some (r4.1, r4.2)
def fB_X1_firstIn (d : Nat) (g_X1_firstIn : Option Nat → Int32 → Int32 → Wd → Option (Wd × Option Nat)) (p1 : Option Nat) (p2 : Int32) (p3 : Int32) (w : Wd) : Option (Wd × Option Nat) :=
  (p1).elim
    (some (w, none))
    fun a1 =>
    if (gI w a1 10) = 0 then
      some (w, none)
    else
      if p2 ≤ (gI w a1 11) then
        (g_X1_firstIn (gR w a1 8) p2 p3 w).bind fun r2 =>
        (r2.2).elim
          (if (gI r2.1 a1 1) ≤ p3 then
            if (gI r2.1 a1 6) = 0 then
              if (gI r2.1 a1 2) < p2 then
                b_X1_firstIn_64 d g_X1_firstIn p1 p2 p3 r2.1
              else
                some (r2.1, p1)
            else
              b_X1_firstIn_64 d g_X1_firstIn p1 p2 p3 r2.1
          else
            some (r2.1, r2.2))
          fun a5 =>
          some (r2.1, r2.2)
      else
        some (w, none)
theorem sb_X1_firstIn_64 {G : Gx} (hG : GW G) {M : Mx} (hl : (mL M).stackTraces = false) {w0 : Wd} {d : Nat} (K : Cx (G, true, M, 4, w0) cX1_firstIn "IntervalTree" (d + 1)) (hr : (mH M).sig.returnType = some (.object "IntervalTree$Node")) (hnm : (mH M).name = yX1_firstIn.name) (hxt : ∀ x ∈ (mC M).exceptionTable.toList, False) (hnd : (mS M).methodNamed? yX1_firstIn = some (mM M)) {g_X1_firstIn : Option Nat → Int32 → Int32 → Wd → Option (Wd × Option Nat)} (hg_X1_firstIn : ∀ (p1 : Option Nat) (p2 : Int32) (p3 : Int32) (w : Wd) (fp2 : Bool) (fp3 : Bool), Mt G true (mL M) yX1_firstIn (ws_ yX1_firstIn cX1_firstIn 4 (some (.object "IntervalTree$Node"))) d (rrV G (pR 4)) [aR 4 p1, aB fp2 p2, aB fp3 p3] w (g_X1_firstIn p1 p2 p3 w)) : ∀ (x0 : Option Nat) (x1 : Int32) (x2 : Int32) (w : Wd) (fx1 : Bool) (fx2 : Bool), Jf (G, true, M, 4, w0) (rrV G (pR 4)) (b_X1_firstIn_64 d g_X1_firstIn x0 x1 x2 w) w 64 [some (aR 4 x0), some (aB fx1 x1), some (aB fx2 x2), none] [] := by
  intro x0 x1 x2 w fx1 fx2
  refine j_aload_n K dX1_firstIn_64 rfl ?_
  refine j_nn (fun a3 ha3 => ?_)
  refine j_getR (k := 9) K dX1_firstIn_65 rfl rfl rfl q557 rfl rfl (by decide) ha3 ?_
  refine j_iload_n K dX1_firstIn_68 rfl ?_
  refine j_iload_n K dX1_firstIn_69 rfl ?_
  refine j_callS _ K (hg_X1_firstIn (gR w a3 9) x1 x2 w fx1 fx2) dX1_firstIn_70 q812 q813 q93 q814 pm_X1_firstIn.2 rfl rfl rfl rfl (fun r4 _ => ?_)
  exact j_aret K hr (Or.inl ⟨_, rfl⟩) dX1_firstIn_73
theorem simB_X1_firstIn {G : Gx} (hG : GW G) {l : Launch} (hl : l.stackTraces = false) (d : Nat) {g_X1_firstIn : Option Nat → Int32 → Int32 → Wd → Option (Wd × Option Nat)} (hg_X1_firstIn : ∀ (p1 : Option Nat) (p2 : Int32) (p3 : Int32) (w : Wd) (fp2 : Bool) (fp3 : Bool), Mt G true l yX1_firstIn (ws_ yX1_firstIn cX1_firstIn 4 (some (.object "IntervalTree$Node"))) d (rrV G (pR 4)) [aR 4 p1, aB fp2 p2, aB fp3 p3] w (g_X1_firstIn p1 p2 p3 w)) (p1 : Option Nat) (p2 : Int32) (p3 : Int32) (w : Wd) (fp2 : Bool) (fp3 : Bool) : Mt G true l yX1_firstIn (ws_ yX1_firstIn cX1_firstIn 4 (some (.object "IntervalTree$Node"))) (d + 1) (rrV G (pR 4)) [aR 4 p1, aB fp2 p2, aB fp3 p3] w (fB_X1_firstIn d g_X1_firstIn p1 p2 p3 w) := by
  refine Mt.of (own := "IntervalTree") hG hl (by decide +kernel) rfl rfl ?_
  intro M hM hr hnm hxt hnd K
  subst hM
  refine j_aload_n K dX1_firstIn_0 rfl ?_
  refine j_ifnull 19 K dX1_firstIn_1 (by decide) (fun _ => ?_) (fun a1 ha1 => ?_)
  · refine j_null 4 K dX1_firstIn_19 ?_
    exact j_aret K hr (Or.inl ⟨_, rfl⟩) dX1_firstIn_20
  · refine j_aload_n K dX1_firstIn_4 rfl ?_
    refine j_getI (k := 10) K dX1_firstIn_5 rfl rfl rfl q559 rfl rfl ha1 ?_
    refine j_if_eq 19 K dX1_firstIn_8 (by decide) ?_ ?_
    · refine j_null 4 K dX1_firstIn_19 ?_
      exact j_aret K hr (Or.inl ⟨_, rfl⟩) dX1_firstIn_20
    · refine j_aload_n K dX1_firstIn_11 rfl ?_
      refine j_getI (k := 11) K dX1_firstIn_12 rfl rfl rfl q561 rfl rfl ha1 ?_
      refine j_iload_n K dX1_firstIn_15 rfl ?_
      refine j_icmp_ge 21 K dX1_firstIn_16 (by decide) ?_ ?_
      · refine j_aload_n K dX1_firstIn_21 rfl ?_
        refine j_getR (k := 8) K dX1_firstIn_22 rfl rfl rfl q555 rfl rfl (by decide) ha1 ?_
        refine j_iload_n K dX1_firstIn_25 rfl ?_
        refine j_iload_n K dX1_firstIn_26 rfl ?_
        refine j_callS _ K (hg_X1_firstIn (gR w a1 8) p2 p3 w fp2 fp3) dX1_firstIn_27 q812 q813 q93 q814 pm_X1_firstIn.2 rfl rfl rfl rfl (fun r2 _ => ?_)
        refine j_astore_n K dX1_firstIn_30 rfl rfl ?_
        refine j_aload_n K dX1_firstIn_31 rfl ?_
        refine j_ifnonnull 43 K dX1_firstIn_32 (by decide) (fun a5 ha5 => ?_) (fun _ => ?_)
        · refine j_aload_n K dX1_firstIn_43 rfl ?_
          exact j_aret K hr (Or.inl ⟨_, rfl⟩) dX1_firstIn_44
        · refine j_aload_n K dX1_firstIn_35 rfl ?_
          refine j_getI (k := 1) K dX1_firstIn_36 rfl rfl rfl q543 rfl rfl ha1 ?_
          refine j_iload_n K dX1_firstIn_39 rfl ?_
          refine j_icmp_le 45 K dX1_firstIn_40 (by decide) ?_ ?_
          · refine j_aload_n K dX1_firstIn_45 rfl ?_
            refine j_getZ (k := 6) K dX1_firstIn_46 rfl rfl rfl q552 rfl rfl rfl ha1 ?_
            refine j_if_ne 64 K dX1_firstIn_49 (by decide) ?_ ?_
            · exact j_wk (sb_X1_firstIn_64 hG hl K hr hnm hxt hnd hg_X1_firstIn _ _ _ _ _ _) ⟨rfl, rfl, rfl, trivial⟩
            · refine j_aload_n K dX1_firstIn_52 rfl ?_
              refine j_getI (k := 2) K dX1_firstIn_53 rfl rfl rfl q545 rfl rfl ha1 ?_
              refine j_iload_n K dX1_firstIn_56 rfl ?_
              refine j_icmp_lt 64 K dX1_firstIn_57 (by decide) ?_ ?_
              · exact j_wk (sb_X1_firstIn_64 hG hl K hr hnm hxt hnd hg_X1_firstIn _ _ _ _ _ _) ⟨rfl, rfl, rfl, trivial⟩
              · refine j_aload_n K dX1_firstIn_60 rfl ?_
                refine j_goto 73 K dX1_firstIn_61 (by decide) ?_
                exact j_aret K hr (Or.inl ⟨_, rfl⟩) dX1_firstIn_73
          · refine j_aload_n K dX1_firstIn_43 rfl ?_
            exact j_aret K hr (Or.inl ⟨_, rfl⟩) dX1_firstIn_44
      · refine j_null 4 K dX1_firstIn_19 ?_
        exact j_aret K hr (Or.inl ⟨_, rfl⟩) dX1_firstIn_20
def f_X1_firstIn : Nat → Option Nat → Int32 → Int32 → Wd → Option (Wd × Option Nat)
  | 0 => fun _ _ _ _ => none
  | d + 1 => fB_X1_firstIn d (f_X1_firstIn d)
theorem sim_X1_firstIn {G : Gx} (hG : GW G) {l : Launch} (hl : l.stackTraces = false) : ∀ (d : Nat) (p1 : Option Nat) (p2 : Int32) (p3 : Int32) (w : Wd) (fp2 : Bool) (fp3 : Bool), Mt G true l yX1_firstIn (ws_ yX1_firstIn cX1_firstIn 4 (some (.object "IntervalTree$Node"))) d (rrV G (pR 4)) [aR 4 p1, aB fp2 p2, aB fp3 p3] w (f_X1_firstIn d p1 p2 p3 w) := by
  intro d
  induction d with
  | zero => intros; exact fun _ h => by cases h
  | succ d ih => exact simB_X1_firstIn hG hl d ih

theorem pm_X1_firstOverlap : yX1_firstOverlap.cls = RX1 ∧ yX1_firstOverlap.cls ≠ "java/lang/invoke/MethodHandle" ∧ yX1_firstOverlap.cls ≠ "java/lang/invoke/VarHandle" ∧ (parseMethodDescriptor yX1_firstOverlap.desc).map (fun d => d.parameters.length) = some 2 := by decide +kernel
def b_X1_firstOverlap_10 (d : Nat) (x1 : Int32) (x2 : Int32) (s0 : Int32) (w : Wd) : Option (Wd × (Int32 ⊕ Nat)) :=
  bX (f_X1_check d s0 w) fun wr1 r1 =>
  (f_X1_firstIn d (gR wr1 8 4) x1 x2 wr1).bind fun r2 =>
  (f_X1_idOf d r2.2 r2.1).bind fun r3 =>
  some (r3.1, .inl r3.2)
def f_X1_firstOverlap (d : Nat) (p1 : Int32) (p2 : Int32) (w : Wd) : Option (Wd × (Int32 ⊕ Nat)) :=
  match d with
  | 0 => none
  | d + 1 =>
    if p2 < p1 then
      b_X1_firstOverlap_10 d p1 p2 0 w
    else
      b_X1_firstOverlap_10 d p1 p2 1 w
theorem sb_X1_firstOverlap_10 {G : Gx} (hG : GW G) {M : Mx} (hl : (mL M).stackTraces = false) {w0 : Wd} {d : Nat} (K : Cx (G, true, M, 3, w0) cX1_firstOverlap "IntervalTree" (d + 1)) (hr : (mH M).sig.returnType = some .int) (hnm : (mH M).name = yX1_firstOverlap.name) (hxt : ∀ x ∈ (mC M).exceptionTable.toList, False) (hnd : (mS M).methodNamed? yX1_firstOverlap = some (mM M)) : ∀ (x1 : Int32) (x2 : Int32) (s0 : Int32) (w : Wd) (fx1 : Bool) (fx2 : Bool), Jf (G, true, M, 3, w0) (rrX G pI) (b_X1_firstOverlap_10 d x1 x2 s0 w) w 10 [some (aR 1 (some 8)), some (aB fx1 x1), some (aB fx2 x2)] [aB true s0] := by
  intro x1 x2 s0 w fx1 fx2
  refine j_callSX _ K hxt (sim_X1_check hG hl d s0 w) dX1_firstOverlap_10 q447 q448 q93 q449 pm_X1_check.2 rfl rfl rfl rfl (fun wr1 r1 _ => ?_)
  refine j_aload_n K dX1_firstOverlap_13 rfl ?_
  refine j_getR (k := 4) K dX1_firstOverlap_14 rfl rfl rfl q185 rfl rfl (by decide) rfl ?_
  refine j_iload_n K dX1_firstOverlap_17 rfl ?_
  refine j_iload_n K dX1_firstOverlap_18 rfl ?_
  refine j_callS _ K (sim_X1_firstIn hG hl d (gR wr1 8 4) x1 x2 wr1 fx1 fx2) dX1_firstOverlap_19 q812 q813 q93 q814 pm_X1_firstIn.2 rfl rfl rfl rfl (fun r2 _ => ?_)
  refine j_callS _ K (sim_X1_idOf hG hl d r2.2 r2.1) dX1_firstOverlap_22 q398 q399 q93 q400 pm_X1_idOf.2 rfl rfl rfl rfl (fun r3 _ => ?_)
  exact j_iretX K hr dX1_firstOverlap_25
theorem sim_X1_firstOverlap {G : Gx} (hG : GW G) {l : Launch} (hl : l.stackTraces = false) (d : Nat) (p1 : Int32) (p2 : Int32) (w : Wd) (fp1 : Bool) (fp2 : Bool) : Mt G true l yX1_firstOverlap (ws_ yX1_firstOverlap cX1_firstOverlap 3 (some .int)) d (rrX G pI) [aR 1 (some 8), aB fp1 p1, aB fp2 p2] w (f_X1_firstOverlap d p1 p2 w) := by
  refine Mt.of (own := "IntervalTree") hG hl (by decide +kernel) rfl rfl ?_
  intro M hM hr hnm hxt hnd K
  subst hM
  cases d with
  | zero => exact j_none
  | succ d =>
    refine j_iload_n K dX1_firstOverlap_0 rfl ?_
    refine j_iload_n K dX1_firstOverlap_1 rfl ?_
    refine j_icmp_gt 9 K dX1_firstOverlap_2 (by decide) ?_ ?_
    · refine j_iconstZ K dX1_firstOverlap_9 rfl (Or.inl rfl) ?_
      exact sb_X1_firstOverlap_10 hG hl K hr hnm hxt hnd _ _ _ _ _ _
    · refine j_iconstZ K dX1_firstOverlap_5 rfl (Or.inr rfl) ?_
      refine j_goto 10 K dX1_firstOverlap_6 (by decide) ?_
      exact sb_X1_firstOverlap_10 hG hl K hr hnm hxt hnd _ _ _ _ _ _

theorem pm_X1_rank : yX1_rank.cls = RX1 ∧ yX1_rank.cls ≠ "java/lang/invoke/MethodHandle" ∧ yX1_rank.cls ≠ "java/lang/invoke/VarHandle" ∧ (parseMethodDescriptor yX1_rank.desc).map (fun d => d.parameters.length) = some 1 := by decide +kernel
def b_X1_rank_97 (d : Nat) (k28 : Int32 → Option Nat → Wd → Option (Wd × (Int32 ⊕ Nat))) (x3 : Int32) (x4 : Option Nat) (w : Wd) : Option (Wd × (Int32 ⊕ Nat)) :=
  (x4).bind fun a5 =>
  k28 x3 (gR w a5 7) w
def b_X1_rank_95 (d : Nat) (k28 : Int32 → Option Nat → Wd → Option (Wd × (Int32 ⊕ Nat))) (x4 : Option Nat) (s0 : Int32) (s1 : Int32) (w : Wd) : Option (Wd × (Int32 ⊕ Nat)) :=
  b_X1_rank_97 d k28 (s0 + s1) x4 w
def b_X1_rank_66 (d : Nat) (k28 : Int32 → Option Nat → Wd → Option (Wd × (Int32 ⊕ Nat))) (x4 : Option Nat) (s0 : Int32) (s1 : Int32) (w : Wd) : Option (Wd × (Int32 ⊕ Nat)) :=
  (x4).bind fun a6 =>
  (gR w a6 7).bind fun a7 =>
  (gR w a7 8).elim
    (b_X1_rank_95 d k28 x4 (s0 + s1) 0 w)
    fun a8 =>
    b_X1_rank_95 d k28 x4 (s0 + s1) (gI w a8 10) w
def b_X1_rank_28 (d : Nat) : Nat → Int32 → Option Nat → Wd → Option (Wd × (Int32 ⊕ Nat))
  | 0, _, _, _ => none
  | n + 1, x3, x4, w =>
    (x4).bind fun a3 =>
    (gR w a3 7).elim
      (some (w, .inl x3))
      fun a4 =>
      if (gR w a4 9) = x4 then
        if (gI w a4 6) = 0 then
          b_X1_rank_66 d (b_X1_rank_28 d n) x4 x3 1 w
        else
          b_X1_rank_66 d (b_X1_rank_28 d n) x4 x3 0 w
      else
        b_X1_rank_97 d (b_X1_rank_28 d n) x3 x4 w
def b_X1_rank_24 (d : Nat) (x2 : Option Nat) (s0 : Int32) (w : Wd) : Option (Wd × (Int32 ⊕ Nat)) :=
  b_X1_rank_28 d FU s0 x2 w
def f_X1_rank (d : Nat) (p1 : Int32) (w : Wd) : Option (Wd × (Int32 ⊕ Nat)) :=
  match d with
  | 0 => none
  | d + 1 =>
    bX (f_X1_liveNode d p1 w) fun wr1 r1 =>
    (r1).bind fun a2 =>
    (gR wr1 a2 8).elim
      (b_X1_rank_24 d r1 0 wr1)
      fun a3 =>
      b_X1_rank_24 d r1 (gI wr1 a3 10) wr1
theorem sb_X1_rank_97 {G : Gx} (hG : GW G) {M : Mx} (hl : (mL M).stackTraces = false) {w0 : Wd} {d : Nat} (K : Cx (G, true, M, 5, w0) cX1_rank "IntervalTree" (d + 1)) (hr : (mH M).sig.returnType = some .int) (hnm : (mH M).name = yX1_rank.name) (hxt : ∀ x ∈ (mC M).exceptionTable.toList, False) (hnd : (mS M).methodNamed? yX1_rank = some (mM M)) {k28 : Int32 → Option Nat → Wd → Option (Wd × (Int32 ⊕ Nat))} (hk28 : ∀ (x3 : Int32) (x4 : Option Nat) (w : Wd) (fx3 : Bool), Jf (G, true, M, 5, w0) (rrX G pI) (k28 x3 x4 w) w 28 [none, none, none, some (aB fx3 x3), some (aR 4 x4)] []) : ∀ (x3 : Int32) (x4 : Option Nat) (w : Wd) (fx3 : Bool), Jf (G, true, M, 5, w0) (rrX G pI) (b_X1_rank_97 d k28 x3 x4 w) w 97 [none, none, none, some (aB fx3 x3), some (aR 4 x4)] [] := by
  intro x3 x4 w fx3
  refine j_aload K dX1_rank_97 rfl ?_
  refine j_nn (fun a5 ha5 => ?_)
  refine j_getR (k := 7) K dX1_rank_99 rfl rfl rfl q553 rfl rfl (by decide) ha5 ?_
  refine j_astore K dX1_rank_102 rfl rfl ?_
  refine j_goto 28 K dX1_rank_104 (by decide) ?_
  exact j_wk (hk28 _ _ _ _) ⟨rfl, rfl, trivial⟩
theorem sb_X1_rank_95 {G : Gx} (hG : GW G) {M : Mx} (hl : (mL M).stackTraces = false) {w0 : Wd} {d : Nat} (K : Cx (G, true, M, 5, w0) cX1_rank "IntervalTree" (d + 1)) (hr : (mH M).sig.returnType = some .int) (hnm : (mH M).name = yX1_rank.name) (hxt : ∀ x ∈ (mC M).exceptionTable.toList, False) (hnd : (mS M).methodNamed? yX1_rank = some (mM M)) {k28 : Int32 → Option Nat → Wd → Option (Wd × (Int32 ⊕ Nat))} (hk28 : ∀ (x3 : Int32) (x4 : Option Nat) (w : Wd) (fx3 : Bool), Jf (G, true, M, 5, w0) (rrX G pI) (k28 x3 x4 w) w 28 [none, none, none, some (aB fx3 x3), some (aR 4 x4)] []) : ∀ (x4 : Option Nat) (s0 : Int32) (s1 : Int32) (w : Wd) (fs0 : Bool) (fs1 : Bool), Jf (G, true, M, 5, w0) (rrX G pI) (b_X1_rank_95 d k28 x4 s0 s1 w) w 95 [none, none, none, none, some (aR 4 x4)] [aB fs1 s1, aB fs0 s0] := by
  intro x4 s0 s1 w fs0 fs1
  refine j_iadd K dX1_rank_95 ?_
  refine j_istore_n K dX1_rank_96 rfl rfl ?_
  exact j_wk (sb_X1_rank_97 hG hl K hr hnm hxt hnd hk28 _ _ _ _) ⟨rfl, rfl, trivial⟩
theorem sb_X1_rank_66 {G : Gx} (hG : GW G) {M : Mx} (hl : (mL M).stackTraces = false) {w0 : Wd} {d : Nat} (K : Cx (G, true, M, 5, w0) cX1_rank "IntervalTree" (d + 1)) (hr : (mH M).sig.returnType = some .int) (hnm : (mH M).name = yX1_rank.name) (hxt : ∀ x ∈ (mC M).exceptionTable.toList, False) (hnd : (mS M).methodNamed? yX1_rank = some (mM M)) {k28 : Int32 → Option Nat → Wd → Option (Wd × (Int32 ⊕ Nat))} (hk28 : ∀ (x3 : Int32) (x4 : Option Nat) (w : Wd) (fx3 : Bool), Jf (G, true, M, 5, w0) (rrX G pI) (k28 x3 x4 w) w 28 [none, none, none, some (aB fx3 x3), some (aR 4 x4)] []) : ∀ (x4 : Option Nat) (s0 : Int32) (s1 : Int32) (w : Wd) (fs0 : Bool), Jf (G, true, M, 5, w0) (rrX G pI) (b_X1_rank_66 d k28 x4 s0 s1 w) w 66 [none, none, none, none, some (aR 4 x4)] [aB true s1, aB fs0 s0] := by
  intro x4 s0 s1 w fs0
  refine j_iadd K dX1_rank_66 ?_
  refine j_istore_n K dX1_rank_67 rfl rfl ?_
  refine j_iload_n K dX1_rank_68 rfl ?_
  refine j_aload K dX1_rank_69 rfl ?_
  refine j_nn (fun a6 ha6 => ?_)
  refine j_getR (k := 7) K dX1_rank_71 rfl rfl rfl q553 rfl rfl (by decide) ha6 ?_
  refine j_nn (fun a7 ha7 => ?_)
  refine j_getR (k := 8) K dX1_rank_74 rfl rfl rfl q555 rfl rfl (by decide) ha7 ?_
  refine j_ifnonnull 84 K dX1_rank_77 (by decide) (fun a8 ha8 => ?_) (fun _ => ?_)
  · refine j_aload K dX1_rank_84 rfl ?_
    refine j_getR (k := 7) K dX1_rank_86 rfl rfl rfl q553 rfl rfl (by decide) ha6 ?_
    refine j_getR (k := 8) K dX1_rank_89 rfl rfl rfl q555 rfl rfl (by decide) ha7 ?_
    refine j_getI (k := 10) K dX1_rank_92 rfl rfl rfl q559 rfl rfl ha8 ?_
    exact j_wk (sb_X1_rank_95 hG hl K hr hnm hxt hnd hk28 _ _ _ _ _ _) ⟨rfl, trivial⟩
  · refine j_iconstZ K dX1_rank_80 rfl (Or.inl rfl) ?_
    refine j_goto 95 K dX1_rank_81 (by decide) ?_
    exact j_wk (sb_X1_rank_95 hG hl K hr hnm hxt hnd hk28 _ _ _ _ _ _) ⟨rfl, trivial⟩
theorem sb_X1_rank_28 {G : Gx} (hG : GW G) {M : Mx} (hl : (mL M).stackTraces = false) {w0 : Wd} {d : Nat} (K : Cx (G, true, M, 5, w0) cX1_rank "IntervalTree" (d + 1)) (hr : (mH M).sig.returnType = some .int) (hnm : (mH M).name = yX1_rank.name) (hxt : ∀ x ∈ (mC M).exceptionTable.toList, False) (hnd : (mS M).methodNamed? yX1_rank = some (mM M)) : ∀ (n : Nat), ∀ (x3 : Int32) (x4 : Option Nat) (w : Wd) (fx3 : Bool), Jf (G, true, M, 5, w0) (rrX G pI) (b_X1_rank_28 d n x3 x4 w) w 28 [none, none, none, some (aB fx3 x3), some (aR 4 x4)] [] := by
  intro n
  induction n with
  | zero => intros; exact j_none
  | succ n ih =>
    intro x3 x4 w fx3
    refine j_aload K dX1_rank_28 rfl ?_
    refine j_nn (fun a3 ha3 => ?_)
    refine j_getR (k := 7) K dX1_rank_30 rfl rfl rfl q553 rfl rfl (by decide) ha3 ?_
    refine j_ifnull 107 K dX1_rank_33 (by decide) (fun _ => ?_) (fun a4 ha4 => ?_)
    · refine j_iload_n K dX1_rank_107 rfl ?_
      exact j_iretX K hr dX1_rank_108
    · refine j_aload K dX1_rank_36 rfl ?_
      refine j_getR (k := 7) K dX1_rank_38 rfl rfl rfl q553 rfl rfl (by decide) ha3 ?_
      refine j_getR (k := 9) K dX1_rank_41 rfl rfl rfl q557 rfl rfl (by decide) ha4 ?_
      refine j_aload K dX1_rank_44 rfl ?_
      refine j_acmp_ne 97 K dX1_rank_46 (by decide) rfl ?_ ?_
      · exact j_wk (sb_X1_rank_97 hG hl K hr hnm hxt hnd ih _ _ _ _) ⟨rfl, rfl, trivial⟩
      · refine j_iload_n K dX1_rank_49 rfl ?_
        refine j_aload K dX1_rank_50 rfl ?_
        refine j_getR (k := 7) K dX1_rank_52 rfl rfl rfl q553 rfl rfl (by decide) ha3 ?_
        refine j_getZ (k := 6) K dX1_rank_55 rfl rfl rfl q552 rfl rfl rfl ha4 ?_
        refine j_if_eq 65 K dX1_rank_58 (by decide) ?_ ?_
        · refine j_iconstZ K dX1_rank_65 rfl (Or.inr rfl) ?_
          exact j_wk (sb_X1_rank_66 hG hl K hr hnm hxt hnd ih _ _ _ _ _) ⟨rfl, trivial⟩
        · refine j_iconstZ K dX1_rank_61 rfl (Or.inl rfl) ?_
          refine j_goto 66 K dX1_rank_62 (by decide) ?_
          exact j_wk (sb_X1_rank_66 hG hl K hr hnm hxt hnd ih _ _ _ _ _) ⟨rfl, trivial⟩
theorem sb_X1_rank_24 {G : Gx} (hG : GW G) {M : Mx} (hl : (mL M).stackTraces = false) {w0 : Wd} {d : Nat} (K : Cx (G, true, M, 5, w0) cX1_rank "IntervalTree" (d + 1)) (hr : (mH M).sig.returnType = some .int) (hnm : (mH M).name = yX1_rank.name) (hxt : ∀ x ∈ (mC M).exceptionTable.toList, False) (hnd : (mS M).methodNamed? yX1_rank = some (mM M)) : ∀ (x2 : Option Nat) (s0 : Int32) (w : Wd) (fs0 : Bool), Jf (G, true, M, 5, w0) (rrX G pI) (b_X1_rank_24 d x2 s0 w) w 24 [none, none, some (aR 4 x2), none, none] [aB fs0 s0] := by
  intro x2 s0 w fs0
  refine j_istore_n K dX1_rank_24 rfl rfl ?_
  refine j_aload_n K dX1_rank_25 rfl ?_
  refine j_astore K dX1_rank_26 rfl rfl ?_
  exact j_wk (sb_X1_rank_28 hG hl K hr hnm hxt hnd FU _ _ _ _) ⟨rfl, rfl, trivial⟩
theorem sim_X1_rank {G : Gx} (hG : GW G) {l : Launch} (hl : l.stackTraces = false) (d : Nat) (p1 : Int32) (w : Wd) (fp1 : Bool) : Mt G true l yX1_rank (ws_ yX1_rank cX1_rank 5 (some .int)) d (rrX G pI) [aR 1 (some 8), aB fp1 p1] w (f_X1_rank d p1 w) := by
  refine Mt.of (own := "IntervalTree") hG hl (by decide +kernel) rfl rfl ?_
  intro M hM hr hnm hxt hnd K
  subst hM
  cases d with
  | zero => exact j_none
  | succ d =>
    refine j_aload_n K dX1_rank_0 rfl ?_
    refine j_iload_n K dX1_rank_1 rfl ?_
    refine j_callVX _ K hxt (sim_X1_liveNode hG hl d p1 w fp1) dX1_rank_2 rfl rfl q635 q637 qs19 q93 q638 pm_X1_liveNode rfl rfl rfl rfl rfl (fun wr1 r1 _ => ?_)
    refine j_astore_n K dX1_rank_5 rfl rfl ?_
    refine j_aload_n K dX1_rank_6 rfl ?_
    refine j_nn (fun a2 ha2 => ?_)
    refine j_getR (k := 8) K dX1_rank_7 rfl rfl rfl q555 rfl rfl (by decide) ha2 ?_
    refine j_ifnonnull 17 K dX1_rank_10 (by decide) (fun a3 ha3 => ?_) (fun _ => ?_)
    · refine j_aload_n K dX1_rank_17 rfl ?_
      refine j_getR (k := 8) K dX1_rank_18 rfl rfl rfl q555 rfl rfl (by decide) ha2 ?_
      refine j_getI (k := 10) K dX1_rank_21 rfl rfl rfl q559 rfl rfl ha3 ?_
      exact j_wk (sb_X1_rank_24 hG hl K hr hnm hxt hnd _ _ _ _) ⟨rfl, trivial⟩
    · refine j_iconstZ K dX1_rank_13 rfl (Or.inl rfl) ?_
      refine j_goto 24 K dX1_rank_14 (by decide) ?_
      exact j_wk (sb_X1_rank_24 hG hl K hr hnm hxt hnd _ _ _ _) ⟨rfl, trivial⟩

theorem pm_X1_select : yX1_select.cls = RX1 ∧ yX1_select.cls ≠ "java/lang/invoke/MethodHandle" ∧ yX1_select.cls ≠ "java/lang/invoke/VarHandle" ∧ (parseMethodDescriptor yX1_select.desc).map (fun d => d.parameters.length) = some 1 := by decide +kernel
def b_X1_select_90 (d : Nat) (k32 : Option Nat → Int32 → Wd → Option (Wd × (Int32 ⊕ Nat))) (x2 : Option Nat) (x3 : Int32) (w : Wd) : Option (Wd × (Int32 ⊕ Nat)) :=
  (x2).bind fun a5 =>
  k32 (gR w a5 9) x3 w
def b_X1_select_50 (d : Nat) (k32 : Option Nat → Int32 → Wd → Option (Wd × (Int32 ⊕ Nat))) (x2 : Option Nat) (x3 : Int32) (s0 : Int32) (w : Wd) : Option (Wd × (Int32 ⊕ Nat)) :=
  if s0 ≤ x3 then
    (x2).bind fun a4 =>
    if (gI w a4 6) = 0 then
      if (x3 - s0) = 0 then
        some (w, .inl (gI w a4 0))
      else
        b_X1_select_90 d k32 x2 ((x3 - s0) + (-1)) w
    else
      b_X1_select_90 d k32 x2 (x3 - s0) w
  else
    (x2).bind fun a5 =>
    k32 (gR w a5 8) x3 w
def b_X1_select_32 (d : Nat) : Nat → Option Nat → Int32 → Wd → Option (Wd × (Int32 ⊕ Nat))
  | 0, _, _, _ => none
  | n + 1, x2, x3, w =>
    (x2).bind fun a3 =>
    (gR w a3 8).elim
      (b_X1_select_50 d (b_X1_select_32 d n) x2 x3 0 w)
      fun a4 =>
      b_X1_select_50 d (b_X1_select_32 d n) x2 x3 (gI w a4 10) w
def f_X1_select (d : Nat) (p1 : Int32) (w : Wd) : Option (Wd × (Int32 ⊕ Nat)) :=
  match d with
  | 0 => none
  | d + 1 =>
    (f_X1_size d w).bind fun r1 =>
    (f_X1_isBetween d p1 0 (r1.2 - 1) r1.1).bind fun r2 =>
    if r2.2 = 0 then
      if 8 ≤ d then
        if room r2.1 6 = true then
          some (nw r2.1 43 0 6, .inr (gN r2.1))
        else none
      else none
    else
      b_X1_select_32 d FU (gR r2.1 8 4) p1 r2.1
theorem sb_X1_select_90 {G : Gx} (hG : GW G) {M : Mx} (hl : (mL M).stackTraces = false) {w0 : Wd} {d : Nat} (K : Cx (G, true, M, 5, w0) cX1_select "IntervalTree" (d + 1)) (hr : (mH M).sig.returnType = some .int) (hnm : (mH M).name = yX1_select.name) (hxt : ∀ x ∈ (mC M).exceptionTable.toList, False) (hnd : (mS M).methodNamed? yX1_select = some (mM M)) {k32 : Option Nat → Int32 → Wd → Option (Wd × (Int32 ⊕ Nat))} (hk32 : ∀ (x2 : Option Nat) (x3 : Int32) (w : Wd) (fx3 : Bool), Jf (G, true, M, 5, w0) (rrX G pI) (k32 x2 x3 w) w 32 [none, none, some (aR 4 x2), some (aB fx3 x3), none] []) : ∀ (x2 : Option Nat) (x3 : Int32) (w : Wd) (fx3 : Bool), Jf (G, true, M, 5, w0) (rrX G pI) (b_X1_select_90 d k32 x2 x3 w) w 90 [none, none, some (aR 4 x2), some (aB fx3 x3), none] [] := by
  intro x2 x3 w fx3
  refine j_aload_n K dX1_select_90 rfl ?_
  refine j_nn (fun a5 ha5 => ?_)
  refine j_getR (k := 9) K dX1_select_91 rfl rfl rfl q557 rfl rfl (by decide) ha5 ?_
  refine j_astore_n K dX1_select_94 rfl rfl ?_
  refine j_goto 32 K dX1_select_95 (by decide) ?_
  exact j_wk (hk32 _ _ _ _) ⟨rfl, rfl, trivial⟩
theorem sb_X1_select_50 {G : Gx} (hG : GW G) {M : Mx} (hl : (mL M).stackTraces = false) {w0 : Wd} {d : Nat} (K : Cx (G, true, M, 5, w0) cX1_select "IntervalTree" (d + 1)) (hr : (mH M).sig.returnType = some .int) (hnm : (mH M).name = yX1_select.name) (hxt : ∀ x ∈ (mC M).exceptionTable.toList, False) (hnd : (mS M).methodNamed? yX1_select = some (mM M)) {k32 : Option Nat → Int32 → Wd → Option (Wd × (Int32 ⊕ Nat))} (hk32 : ∀ (x2 : Option Nat) (x3 : Int32) (w : Wd) (fx3 : Bool), Jf (G, true, M, 5, w0) (rrX G pI) (k32 x2 x3 w) w 32 [none, none, some (aR 4 x2), some (aB fx3 x3), none] []) : ∀ (x2 : Option Nat) (x3 : Int32) (s0 : Int32) (w : Wd) (fx3 : Bool) (fs0 : Bool), Jf (G, true, M, 5, w0) (rrX G pI) (b_X1_select_50 d k32 x2 x3 s0 w) w 50 [none, none, some (aR 4 x2), some (aB fx3 x3), none] [aB fs0 s0] := by
  intro x2 x3 s0 w fx3 fs0
  refine j_istore K dX1_select_50 rfl rfl ?_
  refine j_iload_n K dX1_select_52 rfl ?_
  refine j_iload K dX1_select_53 rfl ?_
  refine j_icmp_ge 66 K dX1_select_55 (by decide) ?_ ?_
  · refine j_iload_n K dX1_select_66 rfl ?_
    refine j_iload K dX1_select_67 rfl ?_
    refine j_isub K dX1_select_69 ?_
    refine j_istore_n K dX1_select_70 rfl rfl ?_
    refine j_aload_n K dX1_select_71 rfl ?_
    refine j_nn (fun a4 ha4 => ?_)
    refine j_getZ (k := 6) K dX1_select_72 rfl rfl rfl q552 rfl rfl rfl ha4 ?_
    refine j_if_ne 90 K dX1_select_75 (by decide) ?_ ?_
    · exact j_wk (sb_X1_select_90 hG hl K hr hnm hxt hnd hk32 _ _ _ _) ⟨rfl, rfl, trivial⟩
    · refine j_iload_n K dX1_select_78 rfl ?_
      refine j_if_ne 87 K dX1_select_79 (by decide) ?_ ?_
      · refine j_iinc (y := (-1)) K dX1_select_87 rfl rfl rfl rfl ?_
        exact j_wk (sb_X1_select_90 hG hl K hr hnm hxt hnd hk32 _ _ _ _) ⟨rfl, rfl, trivial⟩
      · refine j_aload_n K dX1_select_82 rfl ?_
        refine j_getI (k := 0) K dX1_select_83 rfl rfl rfl q541 rfl rfl ha4 ?_
        exact j_iretX K hr dX1_select_86
  · refine j_aload_n K dX1_select_58 rfl ?_
    refine j_nn (fun a5 ha5 => ?_)
    refine j_getR (k := 8) K dX1_select_59 rfl rfl rfl q555 rfl rfl (by decide) ha5 ?_
    refine j_astore_n K dX1_select_62 rfl rfl ?_
    refine j_goto 32 K dX1_select_63 (by decide) ?_
    exact j_wk (hk32 _ _ _ _) ⟨rfl, rfl, trivial⟩
theorem sb_X1_select_32 {G : Gx} (hG : GW G) {M : Mx} (hl : (mL M).stackTraces = false) {w0 : Wd} {d : Nat} (K : Cx (G, true, M, 5, w0) cX1_select "IntervalTree" (d + 1)) (hr : (mH M).sig.returnType = some .int) (hnm : (mH M).name = yX1_select.name) (hxt : ∀ x ∈ (mC M).exceptionTable.toList, False) (hnd : (mS M).methodNamed? yX1_select = some (mM M)) : ∀ (n : Nat), ∀ (x2 : Option Nat) (x3 : Int32) (w : Wd) (fx3 : Bool), Jf (G, true, M, 5, w0) (rrX G pI) (b_X1_select_32 d n x2 x3 w) w 32 [none, none, some (aR 4 x2), some (aB fx3 x3), none] [] := by
  intro n
  induction n with
  | zero => intros; exact j_none
  | succ n ih =>
    intro x2 x3 w fx3
    refine j_aload_n K dX1_select_32 rfl ?_
    refine j_nn (fun a3 ha3 => ?_)
    refine j_getR (k := 8) K dX1_select_33 rfl rfl rfl q555 rfl rfl (by decide) ha3 ?_
    refine j_ifnonnull 43 K dX1_select_36 (by decide) (fun a4 ha4 => ?_) (fun _ => ?_)
    · refine j_aload_n K dX1_select_43 rfl ?_
      refine j_getR (k := 8) K dX1_select_44 rfl rfl rfl q555 rfl rfl (by decide) ha3 ?_
      refine j_getI (k := 10) K dX1_select_47 rfl rfl rfl q559 rfl rfl ha4 ?_
      exact j_wk (sb_X1_select_50 hG hl K hr hnm hxt hnd ih _ _ _ _ _ _) ⟨rfl, rfl, trivial⟩
    · refine j_iconstZ K dX1_select_39 rfl (Or.inl rfl) ?_
      refine j_goto 50 K dX1_select_40 (by decide) ?_
      exact j_wk (sb_X1_select_50 hG hl K hr hnm hxt hnd ih _ _ _ _ _ _) ⟨rfl, rfl, trivial⟩
theorem sim_X1_select {G : Gx} (hG : GW G) {l : Launch} (hl : l.stackTraces = false) (d : Nat) (p1 : Int32) (w : Wd) (fp1 : Bool) : Mt G true l yX1_select (ws_ yX1_select cX1_select 5 (some .int)) d (rrX G pI) [aR 1 (some 8), aB fp1 p1] w (f_X1_select d p1 w) := by
  refine Mt.of (own := "IntervalTree") hG hl (by decide +kernel) rfl rfl ?_
  intro M hM hr hnm hxt hnd K
  subst hM
  cases d with
  | zero => exact j_none
  | succ d =>
    refine j_iload_n K dX1_select_0 rfl ?_
    refine j_iconstZ K dX1_select_1 rfl (Or.inl rfl) ?_
    refine j_aload_n K dX1_select_2 rfl ?_
    refine j_callV _ K (sim_X1_size hG hl d w) dX1_select_3 rfl rfl q434 q344 q345 q93 q346 pm_X1_size rfl rfl rfl rfl rfl (fun r1 _ => ?_)
    refine j_iconstZ K dX1_select_6 rfl (Or.inr rfl) ?_
    refine j_isub K dX1_select_7 ?_
    refine j_callS _ K (sim_X1_isBetween hG hl d p1 0 (r1.2 - 1) r1.1 fp1 true false) dX1_select_8 q444 q445 q93 q446 pm_X1_isBetween.2 rfl rfl rfl rfl (fun r2 _ => ?_)
    refine j_if_ne 25 K dX1_select_11 (by decide) ?_ ?_
    · refine j_aload_n K dX1_select_25 rfl ?_
      refine j_getR (k := 4) K dX1_select_26 rfl rfl rfl q185 rfl rfl (by decide) rfl ?_
      refine j_astore_n K dX1_select_29 rfl rfl ?_
      refine j_iload_n K dX1_select_30 rfl ?_
      refine j_istore_n K dX1_select_31 rfl rfl ?_
      exact j_wk (sb_X1_select_32 hG hl K hr hnm hxt hnd FU _ _ _ _) ⟨rfl, rfl, trivial⟩
    · refine j_dp (fun h85 => ?_)
      refine j_rm (fun hr6 => ?_)
      refine j_mkW (kd := 43) K rfl (by decide +kernel) (by decide +kernel) rfl q853 q104 q862 at_X1_43_1 at_X1_43_2 at_X1_43_3 rfl dX1_select_14 dX1_select_17 dX1_select_18 dX1_select_21 (Nat.le_succ_of_le h85) hr6 rfl ?_
      refine j_athrow K dX1_select_24 ?_
      exact j_outN K hxt rfl

theorem pm_X1_nearest : yX1_nearest.cls = RX1 ∧ yX1_nearest.cls ≠ "java/lang/invoke/MethodHandle" ∧ yX1_nearest.cls ≠ "java/lang/invoke/VarHandle" ∧ (parseMethodDescriptor yX1_nearest.desc).map (fun d => d.parameters.length) = some 1 := by decide +kernel
def f_X1_nearest (d : Nat) (p1 : Int32) (w : Wd) : Option (Wd × (Int32 ⊕ Nat)) :=
  match d with
  | 0 => none
  | d + 1 =>
    (f_X1_isBetween d p1 (-2000) 2000 w).bind fun r1 =>
    bX (f_X1_check d r1.2 r1.1) fun wr2 r2 =>
    if 49 ≤ d then
      (nwB (sR wr2 8 16 none) 31 2 2).bind fun w4 =>
      (f_X1_visitAll d (gR (sR wr2 8 16 none) 8 4) (some (gN (sR wr2 8 16 none))) (setAs w4 (gN (sR wr2 8 16 none)) 0 [aR 1 (some 8), aI p1])).bind fun r5 =>
      (f_X1_idOf d (gR r5.1 8 16) r5.1).bind fun r6 =>
      some (r6.1, .inl r6.2)
    else none
theorem sim_X1_nearest {G : Gx} (hG : GW G) {l : Launch} (hl : l.stackTraces = false) (d : Nat) (p1 : Int32) (w : Wd) (fp1 : Bool) : Mt G true l yX1_nearest (ws_ yX1_nearest cX1_nearest 2 (some .int)) d (rrX G pI) [aR 1 (some 8), aB fp1 p1] w (f_X1_nearest d p1 w) := by
  refine Mt.of (own := "IntervalTree") hG hl (by decide +kernel) rfl rfl ?_
  intro M hM hr hnm hxt hnd K
  subst hM
  cases d with
  | zero => exact j_none
  | succ d =>
    refine j_iload_n K dX1_nearest_0 rfl ?_
    refine j_sipush (x := (-2000)) K dX1_nearest_1 (by decide +kernel) ?_
    refine j_sipush (x := 2000) K dX1_nearest_4 (by decide +kernel) ?_
    refine j_callS _ K (sim_X1_isBetween hG hl d p1 (-2000) 2000 w fp1 false false) dX1_nearest_7 q444 q445 q93 q446 pm_X1_isBetween.2 rfl rfl rfl rfl (fun r1 _ => ?_)
    refine j_callSX _ K hxt (sim_X1_check hG hl d r1.2 r1.1) dX1_nearest_10 q447 q448 q93 q449 pm_X1_check.2 rfl rfl rfl rfl (fun wr2 r2 _ => ?_)
    refine j_aload_n K dX1_nearest_13 rfl ?_
    refine j_null 4 K dX1_nearest_14 ?_
    refine j_putR (k := 16) K dX1_nearest_15 rfl rfl q197 rfl (Or.inl rfl) rfl (Or.inl ⟨_, rfl⟩) rfl (by decide) rfl (fun _ => by decide +kernel) rfl ?_
    refine j_aload_n K dX1_nearest_18 rfl ?_
    refine j_aload_n K dX1_nearest_19 rfl ?_
    refine j_getR (k := 4) K dX1_nearest_20 rfl rfl rfl q185 rfl rfl (by decide) rfl ?_
    refine j_aload_n K dX1_nearest_23 rfl ?_
    refine j_iload_n K dX1_nearest_24 rfl ?_
    refine j_if (fun hd3 => ?_)
    refine j_indyM (kd := 31) (t := 52) [aR 1 (some 8), aB fp1 p1] K hnd (by decide) (by decide) rfl rfl rfl dX1_nearest_25 rfl rfl (by decide) rfl hd3 rfl rfl (fun w4 => ?_)
    refine j_callV _ K (sim_X1_visitAll hG hl d (gR (sR wr2 8 16 none) 8 4) (some (gN (sR wr2 8 16 none))) (setAs w4 (gN (sR wr2 8 16 none)) 0 [aR 1 (some 8), aI p1])) dX1_nearest_30 rfl rfl q308 q310 qs6 q93 q311 pm_X1_visitAll rfl rfl rfl rfl rfl (fun r5 _ => ?_)
    refine j_aload_n K dX1_nearest_33 rfl ?_
    refine j_getR (k := 16) K dX1_nearest_34 rfl rfl rfl q197 rfl rfl (by decide) rfl ?_
    refine j_callS _ K (sim_X1_idOf hG hl d (gR r5.1 8 16) r5.1) dX1_nearest_37 q398 q399 q93 q400 pm_X1_idOf.2 rfl rfl rfl rfl (fun r6 _ => ?_)
    exact j_iretX K hr dX1_nearest_40

theorem pm_X1_covered : yX1_covered.cls = RX1 ∧ yX1_covered.cls ≠ "java/lang/invoke/MethodHandle" ∧ yX1_covered.cls ≠ "java/lang/invoke/VarHandle" ∧ (parseMethodDescriptor yX1_covered.desc).map (fun d => d.parameters.length) = some 2 := by decide +kernel
def b_X1_covered_109 (d : Nat) (k44 : Int32 → Int32 → Int32 → Int32 → Wd → Option (Wd × (Int32 ⊕ Nat))) (x2 : Int32) (x3 : Int32) (x4 : Int32) (x5 : Int32) (w : Wd) : Option (Wd × (Int32 ⊕ Nat)) :=
  k44 x2 x3 x4 (x5 + 1) w
def b_X1_covered_44 (d : Nat) : Nat → Int32 → Int32 → Int32 → Int32 → Wd → Option (Wd × (Int32 ⊕ Nat))
  | 0, _, _, _, _, _ => none
  | n + 1, x2, x3, x4, x5, w =>
    if (gI w 8 13) ≤ x5 then
      some (w, .inl x3)
    else
      if ib x5 100 = true then
        (gR w 19 x5.toNatClampNeg).bind fun a5 =>
        if (mmin x2 (gI w a5 2)) < (mmax x4 (gI w a5 1)) then
          b_X1_covered_109 d (b_X1_covered_44 d n) x2 x3 x4 x5 w
        else
          b_X1_covered_109 d (b_X1_covered_44 d n) x2 (x3 + (((mmin x2 (gI w a5 2)) - (mmax x4 (gI w a5 1))) + 1)) ((mmin x2 (gI w a5 2)) + 1) x5 w
      else none
def b_X1_covered_29 (d : Nat) (x1 : Int32) (x2 : Int32) (s0 : Int32) (w : Wd) : Option (Wd × (Int32 ⊕ Nat)) :=
  bX (f_X1_check d s0 w) fun wr2 r2 =>
  (f_X1_collectLive d wr2).bind fun r3 =>
  b_X1_covered_44 d FU x2 0 x1 0 r3.1
def b_X1_covered_28 (d : Nat) (x1 : Int32) (x2 : Int32) (w : Wd) : Option (Wd × (Int32 ⊕ Nat)) :=
  b_X1_covered_29 d x1 x2 0 w
def f_X1_covered (d : Nat) (p1 : Int32) (p2 : Int32) (w : Wd) : Option (Wd × (Int32 ⊕ Nat)) :=
  match d with
  | 0 => none
  | d + 1 =>
    (f_X1_isBetween d p1 (-2000) 2000 w).bind fun r1 =>
    if r1.2 = 0 then
      b_X1_covered_28 d p1 p2 r1.1
    else
      (f_X1_isBetween d p2 p1 2000 r1.1).bind fun r2 =>
      if r2.2 = 0 then
        b_X1_covered_28 d p1 p2 r2.1
      else
        b_X1_covered_29 d p1 p2 1 r2.1
theorem sb_X1_covered_109 {G : Gx} (hG : GW G) {M : Mx} (hl : (mL M).stackTraces = false) {w0 : Wd} {d : Nat} (K : Cx (G, true, M, 8, w0) cX1_covered "IntervalTree" (d + 1)) (hr : (mH M).sig.returnType = some .int) (hnm : (mH M).name = yX1_covered.name) (hxt : ∀ x ∈ (mC M).exceptionTable.toList, False) (hnd : (mS M).methodNamed? yX1_covered = some (mM M)) {k44 : Int32 → Int32 → Int32 → Int32 → Wd → Option (Wd × (Int32 ⊕ Nat))} (hk44 : ∀ (x2 : Int32) (x3 : Int32) (x4 : Int32) (x5 : Int32) (w : Wd) (fx2 : Bool) (fx3 : Bool) (fx4 : Bool) (fx5 : Bool), Jf (G, true, M, 8, w0) (rrX G pI) (k44 x2 x3 x4 x5 w) w 44 [some (aR 1 (some 8)), none, some (aB fx2 x2), some (aB fx3 x3), some (aB fx4 x4), some (aB fx5 x5), none, none] []) : ∀ (x2 : Int32) (x3 : Int32) (x4 : Int32) (x5 : Int32) (w : Wd) (fx2 : Bool) (fx3 : Bool) (fx4 : Bool) (fx5 : Bool), Jf (G, true, M, 8, w0) (rrX G pI) (b_X1_covered_109 d k44 x2 x3 x4 x5 w) w 109 [some (aR 1 (some 8)), none, some (aB fx2 x2), some (aB fx3 x3), some (aB fx4 x4), some (aB fx5 x5), none, none] [] := by
  intro x2 x3 x4 x5 w fx2 fx3 fx4 fx5
  refine j_iinc (y := 1) K dX1_covered_109 rfl rfl rfl rfl ?_
  refine j_goto 44 K dX1_covered_112 (by decide) ?_
  exact j_wk (hk44 _ _ _ _ _ _ _ _ _) ⟨rfl, rfl, rfl, rfl, rfl, trivial⟩
theorem sb_X1_covered_44 {G : Gx} (hG : GW G) {M : Mx} (hl : (mL M).stackTraces = false) {w0 : Wd} {d : Nat} (K : Cx (G, true, M, 8, w0) cX1_covered "IntervalTree" (d + 1)) (hr : (mH M).sig.returnType = some .int) (hnm : (mH M).name = yX1_covered.name) (hxt : ∀ x ∈ (mC M).exceptionTable.toList, False) (hnd : (mS M).methodNamed? yX1_covered = some (mM M)) : ∀ (n : Nat), ∀ (x2 : Int32) (x3 : Int32) (x4 : Int32) (x5 : Int32) (w : Wd) (fx2 : Bool) (fx3 : Bool) (fx4 : Bool) (fx5 : Bool), Jf (G, true, M, 8, w0) (rrX G pI) (b_X1_covered_44 d n x2 x3 x4 x5 w) w 44 [some (aR 1 (some 8)), none, some (aB fx2 x2), some (aB fx3 x3), some (aB fx4 x4), some (aB fx5 x5), none, none] [] := by
  intro n
  induction n with
  | zero => intros; exact j_none
  | succ n ih =>
    intro x2 x3 x4 x5 w fx2 fx3 fx4 fx5
    refine j_iload K dX1_covered_44 rfl ?_
    refine j_aload_n K dX1_covered_46 rfl ?_
    refine j_getI (k := 13) K dX1_covered_47 rfl rfl rfl q194 rfl rfl rfl ?_
    refine j_icmp_ge 115 K dX1_covered_50 (by decide) ?_ ?_
    · refine j_iload_n K dX1_covered_115 rfl ?_
      exact j_iretX K hr dX1_covered_116
    · refine j_iload K dX1_covered_53 rfl ?_
      refine j_aload_n K dX1_covered_55 rfl ?_
      refine j_getA (k := 12) 4 K dX1_covered_56 rfl rfl rfl q193 rfl rfl (by decide) rfl rfl rfl ?_
      refine j_iload K dX1_covered_59 rfl ?_
      refine j_ib (fun hi4 => ?_)
      refine j_aal K dX1_covered_61 rfl (fun _ => rfl) (by decide) rfl rfl (fxLen 4 rfl rfl) hi4 ?_
      refine j_nn (fun a5 ha5 => ?_)
      refine j_getI (k := 1) K dX1_covered_62 rfl rfl rfl q543 rfl rfl ha5 ?_
      refine j_mmax K dX1_covered_65 q358 rfl ?_
      refine j_istore K dX1_covered_68 rfl rfl ?_
      refine j_iload_n K dX1_covered_70 rfl ?_
      refine j_aload_n K dX1_covered_71 rfl ?_
      refine j_getA (k := 12) 4 K dX1_covered_72 rfl rfl rfl q193 rfl rfl (by decide) rfl rfl rfl ?_
      refine j_iload K dX1_covered_75 rfl ?_
      refine j_aal K dX1_covered_77 rfl (fun _ => rfl) (by decide) rfl rfl (fxLen 4 rfl rfl) hi4 ?_
      refine j_getI (k := 2) K dX1_covered_78 rfl rfl rfl q545 rfl rfl ha5 ?_
      refine j_mmin K dX1_covered_81 q887 rfl ?_
      refine j_istore K dX1_covered_84 rfl rfl ?_
      refine j_iload K dX1_covered_86 rfl ?_
      refine j_iload K dX1_covered_88 rfl ?_
      refine j_icmp_gt 109 K dX1_covered_90 (by decide) ?_ ?_
      · exact j_wk (sb_X1_covered_109 hG hl K hr hnm hxt hnd ih _ _ _ _ _ _ _ _ _) ⟨rfl, rfl, rfl, rfl, rfl, trivial⟩
      · refine j_iload_n K dX1_covered_93 rfl ?_
        refine j_iload K dX1_covered_94 rfl ?_
        refine j_iload K dX1_covered_96 rfl ?_
        refine j_isub K dX1_covered_98 ?_
        refine j_iconstZ K dX1_covered_99 rfl (Or.inr rfl) ?_
        refine j_iadd K dX1_covered_100 ?_
        refine j_iadd K dX1_covered_101 ?_
        refine j_istore_n K dX1_covered_102 rfl rfl ?_
        refine j_iload K dX1_covered_103 rfl ?_
        refine j_iconstZ K dX1_covered_105 rfl (Or.inr rfl) ?_
        refine j_iadd K dX1_covered_106 ?_
        refine j_istore K dX1_covered_107 rfl rfl ?_
        exact j_wk (sb_X1_covered_109 hG hl K hr hnm hxt hnd ih _ _ _ _ _ _ _ _ _) ⟨rfl, rfl, rfl, rfl, rfl, trivial⟩
theorem sb_X1_covered_29 {G : Gx} (hG : GW G) {M : Mx} (hl : (mL M).stackTraces = false) {w0 : Wd} {d : Nat} (K : Cx (G, true, M, 8, w0) cX1_covered "IntervalTree" (d + 1)) (hr : (mH M).sig.returnType = some .int) (hnm : (mH M).name = yX1_covered.name) (hxt : ∀ x ∈ (mC M).exceptionTable.toList, False) (hnd : (mS M).methodNamed? yX1_covered = some (mM M)) : ∀ (x1 : Int32) (x2 : Int32) (s0 : Int32) (w : Wd) (fx1 : Bool) (fx2 : Bool), Jf (G, true, M, 8, w0) (rrX G pI) (b_X1_covered_29 d x1 x2 s0 w) w 29 [some (aR 1 (some 8)), some (aB fx1 x1), some (aB fx2 x2), none, none, none, none, none] [aB true s0] := by
  intro x1 x2 s0 w fx1 fx2
  refine j_callSX _ K hxt (sim_X1_check hG hl d s0 w) dX1_covered_29 q447 q448 q93 q449 pm_X1_check.2 rfl rfl rfl rfl (fun wr2 r2 _ => ?_)
  refine j_aload_n K dX1_covered_32 rfl ?_
  refine j_callV _ K (sim_X1_collectLive hG hl d wr2) dX1_covered_33 rfl rfl q297 q299 qs3 q93 q300 pm_X1_collectLive rfl rfl rfl rfl rfl (fun r3 _ => ?_)
  refine j_iconstZ K dX1_covered_36 rfl (Or.inl rfl) ?_
  refine j_istore_n K dX1_covered_37 rfl rfl ?_
  refine j_iload_n K dX1_covered_38 rfl ?_
  refine j_istore K dX1_covered_39 rfl rfl ?_
  refine j_iconstZ K dX1_covered_41 rfl (Or.inl rfl) ?_
  refine j_istore K dX1_covered_42 rfl rfl ?_
  exact j_wk (sb_X1_covered_44 hG hl K hr hnm hxt hnd FU _ _ _ _ _ _ _ _ _) ⟨rfl, rfl, rfl, rfl, rfl, trivial⟩
theorem sb_X1_covered_28 {G : Gx} (hG : GW G) {M : Mx} (hl : (mL M).stackTraces = false) {w0 : Wd} {d : Nat} (K : Cx (G, true, M, 8, w0) cX1_covered "IntervalTree" (d + 1)) (hr : (mH M).sig.returnType = some .int) (hnm : (mH M).name = yX1_covered.name) (hxt : ∀ x ∈ (mC M).exceptionTable.toList, False) (hnd : (mS M).methodNamed? yX1_covered = some (mM M)) : ∀ (x1 : Int32) (x2 : Int32) (w : Wd) (fx1 : Bool) (fx2 : Bool), Jf (G, true, M, 8, w0) (rrX G pI) (b_X1_covered_28 d x1 x2 w) w 28 [some (aR 1 (some 8)), some (aB fx1 x1), some (aB fx2 x2), none, none, none, none, none] [] := by
  intro x1 x2 w fx1 fx2
  refine j_iconstZ K dX1_covered_28 rfl (Or.inl rfl) ?_
  exact j_wk (sb_X1_covered_29 hG hl K hr hnm hxt hnd _ _ _ _ _ _) ⟨rfl, rfl, rfl, trivial⟩
theorem sim_X1_covered {G : Gx} (hG : GW G) {l : Launch} (hl : l.stackTraces = false) (d : Nat) (p1 : Int32) (p2 : Int32) (w : Wd) (fp1 : Bool) (fp2 : Bool) : Mt G true l yX1_covered (ws_ yX1_covered cX1_covered 8 (some .int)) d (rrX G pI) [aR 1 (some 8), aB fp1 p1, aB fp2 p2] w (f_X1_covered d p1 p2 w) := by
  refine Mt.of (own := "IntervalTree") hG hl (by decide +kernel) rfl rfl ?_
  intro M hM hr hnm hxt hnd K
  subst hM
  cases d with
  | zero => exact j_none
  | succ d =>
    refine j_iload_n K dX1_covered_0 rfl ?_
    refine j_sipush (x := (-2000)) K dX1_covered_1 (by decide +kernel) ?_
    refine j_sipush (x := 2000) K dX1_covered_4 (by decide +kernel) ?_
    refine j_callS _ K (sim_X1_isBetween hG hl d p1 (-2000) 2000 w fp1 false false) dX1_covered_7 q444 q445 q93 q446 pm_X1_isBetween.2 rfl rfl rfl rfl (fun r1 _ => ?_)
    refine j_if_eq 28 K dX1_covered_10 (by decide) ?_ ?_
    · exact j_wk (sb_X1_covered_28 hG hl K hr hnm hxt hnd _ _ _ _ _) ⟨rfl, rfl, rfl, trivial⟩
    · refine j_iload_n K dX1_covered_13 rfl ?_
      refine j_iload_n K dX1_covered_14 rfl ?_
      refine j_sipush (x := 2000) K dX1_covered_15 (by decide +kernel) ?_
      refine j_callS _ K (sim_X1_isBetween hG hl d p2 p1 2000 r1.1 fp2 fp1 false) dX1_covered_18 q444 q445 q93 q446 pm_X1_isBetween.2 rfl rfl rfl rfl (fun r2 _ => ?_)
      refine j_if_eq 28 K dX1_covered_21 (by decide) ?_ ?_
      · exact j_wk (sb_X1_covered_28 hG hl K hr hnm hxt hnd _ _ _ _ _) ⟨rfl, rfl, rfl, trivial⟩
      · refine j_iconstZ K dX1_covered_24 rfl (Or.inr rfl) ?_
        refine j_goto 29 K dX1_covered_25 (by decide) ?_
        exact j_wk (sb_X1_covered_29 hG hl K hr hnm hxt hnd _ _ _ _ _ _) ⟨rfl, rfl, rfl, trivial⟩

theorem pm_X1_deepestPoint : yX1_deepestPoint.cls = RX1 ∧ yX1_deepestPoint.cls ≠ "java/lang/invoke/MethodHandle" ∧ yX1_deepestPoint.cls ≠ "java/lang/invoke/VarHandle" ∧ (parseMethodDescriptor yX1_deepestPoint.desc).map (fun d => d.parameters.length) = some 0 := by decide +kernel
def b_X1_deepestPoint_78 (d : Nat) (k36 : Int32 → Int32 → Int32 → Wd → Option (Wd × (Int32 ⊕ Nat))) (x1 : Int32) (x2 : Int32) (x3 : Int32) (w : Wd) : Option (Wd × (Int32 ⊕ Nat)) :=
  k36 x1 x2 (x3 + 1) w
def b_X1_deepestPoint_36 (d : Nat) : Nat → Int32 → Int32 → Int32 → Wd → Option (Wd × (Int32 ⊕ Nat))
  | 0, _, _, _, _ => none
  | n + 1, x1, x2, x3, w =>
    if (gI w 8 13) ≤ x3 then
      some (w, .inl x1)
    else
      if ib x3 100 = true then
        (gR w 19 x3.toNatClampNeg).bind fun a6 =>
        (f_X1_stabCount d (gI w a6 1) w).bind fun r7 =>
        if r7.2 ≤ x2 then
          b_X1_deepestPoint_78 d (b_X1_deepestPoint_36 d n) x1 x2 x3 r7.1
        else
          (gR r7.1 19 x3.toNatClampNeg).bind fun a8 =>
          b_X1_deepestPoint_78 d (b_X1_deepestPoint_36 d n) (gI r7.1 a8 1) r7.2 x3 r7.1
      else none
def f_X1_deepestPoint (d : Nat) (w : Wd) : Option (Wd × (Int32 ⊕ Nat)) :=
  match d with
  | 0 => none
  | d + 1 =>
    (f_X1_size d w).bind fun r1 =>
    if r1.2 = 0 then
      if 8 ≤ d then
        if room r1.1 6 = true then
          some (nw r1.1 42 0 6, .inr (gN r1.1))
        else none
      else none
    else
      (f_X1_collectLive d r1.1).bind fun r2 =>
      if ib 0 100 = true then
        (gR r2.1 19 (Int32.toNatClampNeg 0)).bind fun a4 =>
        b_X1_deepestPoint_36 d FU (gI r2.1 a4 1) 0 0 r2.1
      else none
theorem sb_X1_deepestPoint_78 {G : Gx} (hG : GW G) {M : Mx} (hl : (mL M).stackTraces = false) {w0 : Wd} {d : Nat} (K : Cx (G, true, M, 5, w0) cX1_deepestPoint "IntervalTree" (d + 1)) (hr : (mH M).sig.returnType = some .int) (hnm : (mH M).name = yX1_deepestPoint.name) (hxt : ∀ x ∈ (mC M).exceptionTable.toList, False) (hnd : (mS M).methodNamed? yX1_deepestPoint = some (mM M)) {k36 : Int32 → Int32 → Int32 → Wd → Option (Wd × (Int32 ⊕ Nat))} (hk36 : ∀ (x1 : Int32) (x2 : Int32) (x3 : Int32) (w : Wd) (fx1 : Bool) (fx2 : Bool) (fx3 : Bool), Jf (G, true, M, 5, w0) (rrX G pI) (k36 x1 x2 x3 w) w 36 [some (aR 1 (some 8)), some (aB fx1 x1), some (aB fx2 x2), some (aB fx3 x3), none] []) : ∀ (x1 : Int32) (x2 : Int32) (x3 : Int32) (w : Wd) (fx1 : Bool) (fx2 : Bool) (fx3 : Bool), Jf (G, true, M, 5, w0) (rrX G pI) (b_X1_deepestPoint_78 d k36 x1 x2 x3 w) w 78 [some (aR 1 (some 8)), some (aB fx1 x1), some (aB fx2 x2), some (aB fx3 x3), none] [] := by
  intro x1 x2 x3 w fx1 fx2 fx3
  refine j_iinc (y := 1) K dX1_deepestPoint_78 rfl rfl rfl rfl ?_
  refine j_goto 36 K dX1_deepestPoint_81 (by decide) ?_
  exact j_wk (hk36 _ _ _ _ _ _ _) ⟨rfl, rfl, rfl, rfl, trivial⟩
theorem sb_X1_deepestPoint_36 {G : Gx} (hG : GW G) {M : Mx} (hl : (mL M).stackTraces = false) {w0 : Wd} {d : Nat} (K : Cx (G, true, M, 5, w0) cX1_deepestPoint "IntervalTree" (d + 1)) (hr : (mH M).sig.returnType = some .int) (hnm : (mH M).name = yX1_deepestPoint.name) (hxt : ∀ x ∈ (mC M).exceptionTable.toList, False) (hnd : (mS M).methodNamed? yX1_deepestPoint = some (mM M)) : ∀ (n : Nat), ∀ (x1 : Int32) (x2 : Int32) (x3 : Int32) (w : Wd) (fx1 : Bool) (fx2 : Bool) (fx3 : Bool), Jf (G, true, M, 5, w0) (rrX G pI) (b_X1_deepestPoint_36 d n x1 x2 x3 w) w 36 [some (aR 1 (some 8)), some (aB fx1 x1), some (aB fx2 x2), some (aB fx3 x3), none] [] := by
  intro n
  induction n with
  | zero => intros; exact j_none
  | succ n ih =>
    intro x1 x2 x3 w fx1 fx2 fx3
    refine j_iload_n K dX1_deepestPoint_36 rfl ?_
    refine j_aload_n K dX1_deepestPoint_37 rfl ?_
    refine j_getI (k := 13) K dX1_deepestPoint_38 rfl rfl rfl q194 rfl rfl rfl ?_
    refine j_icmp_ge 84 K dX1_deepestPoint_41 (by decide) ?_ ?_
    · refine j_iload_n K dX1_deepestPoint_84 rfl ?_
      exact j_iretX K hr dX1_deepestPoint_85
    · refine j_aload_n K dX1_deepestPoint_44 rfl ?_
      refine j_aload_n K dX1_deepestPoint_45 rfl ?_
      refine j_getA (k := 12) 4 K dX1_deepestPoint_46 rfl rfl rfl q193 rfl rfl (by decide) rfl rfl rfl ?_
      refine j_iload_n K dX1_deepestPoint_49 rfl ?_
      refine j_ib (fun hi5 => ?_)
      refine j_aal K dX1_deepestPoint_50 rfl (fun _ => rfl) (by decide) rfl rfl (fxLen 4 rfl rfl) hi5 ?_
      refine j_nn (fun a6 ha6 => ?_)
      refine j_getI (k := 1) K dX1_deepestPoint_51 rfl rfl rfl q543 rfl rfl ha6 ?_
      refine j_callV _ K (sim_X1_stabCount hG hl d (gI w a6 1) w false) dX1_deepestPoint_54 rfl rfl q898 q380 q381 q93 q382 pm_X1_stabCount rfl rfl rfl rfl rfl (fun r7 _ => ?_)
      refine j_istore K dX1_deepestPoint_57 rfl rfl ?_
      refine j_iload K dX1_deepestPoint_59 rfl ?_
      refine j_iload_n K dX1_deepestPoint_61 rfl ?_
      refine j_icmp_le 78 K dX1_deepestPoint_62 (by decide) ?_ ?_
      · exact j_wk (sb_X1_deepestPoint_78 hG hl K hr hnm hxt hnd ih _ _ _ _ _ _ _) ⟨rfl, rfl, rfl, rfl, trivial⟩
      · refine j_aload_n K dX1_deepestPoint_65 rfl ?_
        refine j_getA (k := 12) 4 K dX1_deepestPoint_66 rfl rfl rfl q193 rfl rfl (by decide) rfl rfl rfl ?_
        refine j_iload_n K dX1_deepestPoint_69 rfl ?_
        refine j_aal K dX1_deepestPoint_70 rfl (fun _ => rfl) (by decide) rfl rfl (fxLen 4 rfl rfl) hi5 ?_
        refine j_nn (fun a8 ha8 => ?_)
        refine j_getI (k := 1) K dX1_deepestPoint_71 rfl rfl rfl q543 rfl rfl ha8 ?_
        refine j_istore_n K dX1_deepestPoint_74 rfl rfl ?_
        refine j_iload K dX1_deepestPoint_75 rfl ?_
        refine j_istore_n K dX1_deepestPoint_77 rfl rfl ?_
        exact j_wk (sb_X1_deepestPoint_78 hG hl K hr hnm hxt hnd ih _ _ _ _ _ _ _) ⟨rfl, rfl, rfl, rfl, trivial⟩
theorem sim_X1_deepestPoint {G : Gx} (hG : GW G) {l : Launch} (hl : l.stackTraces = false) (d : Nat) (w : Wd) : Mt G true l yX1_deepestPoint (ws_ yX1_deepestPoint cX1_deepestPoint 5 (some .int)) d (rrX G pI) [aR 1 (some 8)] w (f_X1_deepestPoint d w) := by
  refine Mt.of (own := "IntervalTree") hG hl (by decide +kernel) rfl rfl ?_
  intro M hM hr hnm hxt hnd K
  subst hM
  cases d with
  | zero => exact j_none
  | succ d =>
    refine j_aload_n K dX1_deepestPoint_0 rfl ?_
    refine j_callV _ K (sim_X1_size hG hl d w) dX1_deepestPoint_1 rfl rfl q434 q344 q345 q93 q346 pm_X1_size rfl rfl rfl rfl rfl (fun r1 _ => ?_)
    refine j_if_ne 18 K dX1_deepestPoint_4 (by decide) ?_ ?_
    · refine j_aload_n K dX1_deepestPoint_18 rfl ?_
      refine j_callV _ K (sim_X1_collectLive hG hl d r1.1) dX1_deepestPoint_19 rfl rfl q297 q299 qs3 q93 q300 pm_X1_collectLive rfl rfl rfl rfl rfl (fun r2 _ => ?_)
      refine j_aload_n K dX1_deepestPoint_22 rfl ?_
      refine j_getA (k := 12) 4 K dX1_deepestPoint_23 rfl rfl rfl q193 rfl rfl (by decide) rfl rfl rfl ?_
      refine j_iconstZ K dX1_deepestPoint_26 rfl (Or.inl rfl) ?_
      refine j_ib (fun hi3 => ?_)
      refine j_aal K dX1_deepestPoint_27 rfl (fun _ => rfl) (by decide) rfl rfl (fxLen 4 rfl rfl) hi3 ?_
      refine j_nn (fun a4 ha4 => ?_)
      refine j_getI (k := 1) K dX1_deepestPoint_28 rfl rfl rfl q543 rfl rfl ha4 ?_
      refine j_istore_n K dX1_deepestPoint_31 rfl rfl ?_
      refine j_iconstZ K dX1_deepestPoint_32 rfl (Or.inl rfl) ?_
      refine j_istore_n K dX1_deepestPoint_33 rfl rfl ?_
      refine j_iconstZ K dX1_deepestPoint_34 rfl (Or.inl rfl) ?_
      refine j_istore_n K dX1_deepestPoint_35 rfl rfl ?_
      exact j_wk (sb_X1_deepestPoint_36 hG hl K hr hnm hxt hnd FU _ _ _ _ _ _ _) ⟨rfl, rfl, rfl, rfl, trivial⟩
    · refine j_dp (fun h89 => ?_)
      refine j_rm (fun hr10 => ?_)
      refine j_mkWN (kd := 42) K rfl (by decide +kernel) q643 q103 q897 at_X1_42_1 at_X1_42_2 at_X1_42_3 rfl dX1_deepestPoint_7 dX1_deepestPoint_10 dX1_deepestPoint_11 dX1_deepestPoint_14 (Nat.le_succ_of_le h89) hr10 rfl ?_
      refine j_athrow K dX1_deepestPoint_17 ?_
      exact j_outN K hxt rfl

theorem pm_X1_scheduled : yX1_scheduled.cls = RX1 ∧ yX1_scheduled.cls ≠ "java/lang/invoke/MethodHandle" ∧ yX1_scheduled.cls ≠ "java/lang/invoke/VarHandle" ∧ (parseMethodDescriptor yX1_scheduled.desc).map (fun d => d.parameters.length) = some 1 := by decide +kernel
def b_X1_scheduled_8 (d : Nat) : Nat → Int32 → Int32 → Int32 → Wd → Option (Wd × (Int32 ⊕ Nat))
  | 0, _, _, _, _ => none
  | n + 1, x1, x2, x3, w =>
    if (gI w 8 13) ≤ x3 then
      if 8 ≤ d then
        if room w 6 = true then
          some (nw w 43 0 6, .inr (gN w))
        else none
      else none
    else
      if ib x3 101 = true then
        if ib (x3 + 1) 101 = true then
          if (gI w 20 x3.toNatClampNeg) = (gI w 20 (x3 + 1).toNatClampNeg) then
            b_X1_scheduled_8 d n x1 x2 (x3 + 1) w
          else
            if x2 = x1 then
              if ib x3 100 = true then
                (gR w 19 x3.toNatClampNeg).bind fun a8 =>
                some (w, .inl (gI w a8 0))
              else none
            else
              if ib x3 100 = true then
                b_X1_scheduled_8 d n x1 (x2 + 1) (gI w 21 x3.toNatClampNeg) w
              else none
        else none
      else none
def f_X1_scheduled (d : Nat) (p1 : Int32) (w : Wd) : Option (Wd × (Int32 ⊕ Nat)) :=
  match d with
  | 0 => none
  | d + 1 =>
    (f_X1_schedule d w).bind fun r1 =>
    b_X1_scheduled_8 d FU p1 0 0 r1.1
theorem sb_X1_scheduled_8 {G : Gx} (hG : GW G) {M : Mx} (hl : (mL M).stackTraces = false) {w0 : Wd} {d : Nat} (K : Cx (G, true, M, 4, w0) cX1_scheduled "IntervalTree" (d + 1)) (hr : (mH M).sig.returnType = some .int) (hnm : (mH M).name = yX1_scheduled.name) (hxt : ∀ x ∈ (mC M).exceptionTable.toList, False) (hnd : (mS M).methodNamed? yX1_scheduled = some (mM M)) : ∀ (n : Nat), ∀ (x1 : Int32) (x2 : Int32) (x3 : Int32) (w : Wd) (fx1 : Bool) (fx2 : Bool) (fx3 : Bool), Jf (G, true, M, 4, w0) (rrX G pI) (b_X1_scheduled_8 d n x1 x2 x3 w) w 8 [some (aR 1 (some 8)), some (aB fx1 x1), some (aB fx2 x2), some (aB fx3 x3)] [] := by
  intro n
  induction n with
  | zero => intros; exact j_none
  | succ n ih =>
    intro x1 x2 x3 w fx1 fx2 fx3
    refine j_iload_n K dX1_scheduled_8 rfl ?_
    refine j_aload_n K dX1_scheduled_9 rfl ?_
    refine j_getI (k := 13) K dX1_scheduled_10 rfl rfl rfl q194 rfl rfl rfl ?_
    refine j_icmp_ge 67 K dX1_scheduled_13 (by decide) ?_ ?_
    · refine j_dp (fun h82 => ?_)
      refine j_rm (fun hr3 => ?_)
      refine j_mkW (kd := 43) K rfl (by decide +kernel) (by decide +kernel) rfl q853 q104 q906 at_X1_43_1 at_X1_43_2 at_X1_43_3 rfl dX1_scheduled_67 dX1_scheduled_70 dX1_scheduled_71 dX1_scheduled_74 (Nat.le_succ_of_le h82) hr3 rfl ?_
      refine j_athrow K dX1_scheduled_77 ?_
      exact j_outN K hxt rfl
    · refine j_aload_n K dX1_scheduled_16 rfl ?_
      refine j_getA (k := 18) 5 K dX1_scheduled_17 rfl rfl rfl q199 rfl rfl (by decide) rfl rfl rfl ?_
      refine j_iload_n K dX1_scheduled_20 rfl ?_
      refine j_ib (fun hi4 => ?_)
      refine j_ial K dX1_scheduled_21 rfl (fxLen 5 rfl rfl) hi4 ?_
      refine j_aload_n K dX1_scheduled_22 rfl ?_
      refine j_getA (k := 18) 5 K dX1_scheduled_23 rfl rfl rfl q199 rfl rfl (by decide) rfl rfl rfl ?_
      refine j_iload_n K dX1_scheduled_26 rfl ?_
      refine j_iconstZ K dX1_scheduled_27 rfl (Or.inr rfl) ?_
      refine j_iadd K dX1_scheduled_28 ?_
      refine j_ib (fun hi5 => ?_)
      refine j_ial K dX1_scheduled_29 rfl (fxLen 5 rfl rfl) hi5 ?_
      refine j_icmp_ne 39 K dX1_scheduled_30 (by decide) ?_ ?_
      · refine j_iload_n K dX1_scheduled_39 rfl ?_
        refine j_iload_n K dX1_scheduled_40 rfl ?_
        refine j_icmp_ne 54 K dX1_scheduled_41 (by decide) ?_ ?_
        · refine j_iinc (y := 1) K dX1_scheduled_54 rfl rfl rfl rfl ?_
          refine j_aload_n K dX1_scheduled_57 rfl ?_
          refine j_getA (k := 19) 6 K dX1_scheduled_58 rfl rfl rfl q200 rfl rfl (by decide) rfl rfl rfl ?_
          refine j_iload_n K dX1_scheduled_61 rfl ?_
          refine j_ib (fun hi6 => ?_)
          refine j_ial K dX1_scheduled_62 rfl (fxLen 6 rfl rfl) hi6 ?_
          refine j_istore_n K dX1_scheduled_63 rfl rfl ?_
          refine j_goto 8 K dX1_scheduled_64 (by decide) ?_
          exact ih _ _ _ _ _ _ _
        · refine j_aload_n K dX1_scheduled_44 rfl ?_
          refine j_getA (k := 12) 4 K dX1_scheduled_45 rfl rfl rfl q193 rfl rfl (by decide) rfl rfl rfl ?_
          refine j_iload_n K dX1_scheduled_48 rfl ?_
          refine j_ib (fun hi7 => ?_)
          refine j_aal K dX1_scheduled_49 rfl (fun _ => rfl) (by decide) rfl rfl (fxLen 4 rfl rfl) hi7 ?_
          refine j_nn (fun a8 ha8 => ?_)
          refine j_getI (k := 0) K dX1_scheduled_50 rfl rfl rfl q541 rfl rfl ha8 ?_
          exact j_iretX K hr dX1_scheduled_53
      · refine j_iinc (y := 1) K dX1_scheduled_33 rfl rfl rfl rfl ?_
        refine j_goto 8 K dX1_scheduled_36 (by decide) ?_
        exact ih _ _ _ _ _ _ _
theorem sim_X1_scheduled {G : Gx} (hG : GW G) {l : Launch} (hl : l.stackTraces = false) (d : Nat) (p1 : Int32) (w : Wd) (fp1 : Bool) : Mt G true l yX1_scheduled (ws_ yX1_scheduled cX1_scheduled 4 (some .int)) d (rrX G pI) [aR 1 (some 8), aB fp1 p1] w (f_X1_scheduled d p1 w) := by
  refine Mt.of (own := "IntervalTree") hG hl (by decide +kernel) rfl rfl ?_
  intro M hM hr hnm hxt hnd K
  subst hM
  cases d with
  | zero => exact j_none
  | succ d =>
    refine j_aload_n K dX1_scheduled_0 rfl ?_
    refine j_callV _ K (sim_X1_schedule hG hl d w) dX1_scheduled_1 rfl rfl q421 q423 qs11 q93 q424 pm_X1_schedule rfl rfl rfl rfl rfl (fun r1 _ => ?_)
    refine j_iconstZ K dX1_scheduled_4 rfl (Or.inl rfl) ?_
    refine j_istore_n K dX1_scheduled_5 rfl rfl ?_
    refine j_iconstZ K dX1_scheduled_6 rfl (Or.inl rfl) ?_
    refine j_istore_n K dX1_scheduled_7 rfl rfl ?_
    exact sb_X1_scheduled_8 hG hl K hr hnm hxt hnd FU _ _ _ _ _ _ _

theorem pm_X1_piercingPoint : yX1_piercingPoint.cls = RX1 ∧ yX1_piercingPoint.cls ≠ "java/lang/invoke/MethodHandle" ∧ yX1_piercingPoint.cls ≠ "java/lang/invoke/VarHandle" ∧ (parseMethodDescriptor yX1_piercingPoint.desc).map (fun d => d.parameters.length) = some 1 := by decide +kernel
def b_X1_piercingPoint_118 (d : Nat) (k8 : Int32 → Int32 → Int32 → Wd → Option (Wd × (Int32 ⊕ Nat))) (x1 : Int32) (x2 : Int32) (x3 : Int32) (w : Wd) : Option (Wd × (Int32 ⊕ Nat)) :=
  k8 x1 x2 x3 w
def b_X1_piercingPoint_90 (d : Nat) : Nat → (Int32 → Int32 → Int32 → Wd → Option (Wd × (Int32 ⊕ Nat))) → Int32 → Int32 → Int32 → Int32 → Wd → Option (Wd × (Int32 ⊕ Nat))
  | 0, _, _, _, _, _, _ => none
  | n + 1, k8, x1, x2, x3, x4, w =>
    if (gI w 8 13) ≤ x3 then
      b_X1_piercingPoint_118 d k8 x1 x2 x3 w
    else
      if ib x3 100 = true then
        (gR w 19 x3.toNatClampNeg).bind fun a7 =>
        if x4 < (gI w a7 1) then
          b_X1_piercingPoint_118 d k8 x1 x2 x3 w
        else
          b_X1_piercingPoint_90 d n k8 x1 x2 (x3 + 1) x4 w
      else none
def b_X1_piercingPoint_77 (d : Nat) (k8 : Int32 → Int32 → Int32 → Wd → Option (Wd × (Int32 ⊕ Nat))) (x1 : Int32) (x2 : Int32) (x4 : Int32) (w : Wd) : Option (Wd × (Int32 ⊕ Nat)) :=
  if x2 = x1 then
    some (w, .inl x4)
  else
    b_X1_piercingPoint_90 d FU k8 x1 (x2 + 1) 0 x4 w
def b_X1_piercingPoint_30 (d : Nat) : Nat → (Int32 → Int32 → Int32 → Wd → Option (Wd × (Int32 ⊕ Nat))) → Int32 → Int32 → Int32 → Int32 → Wd → Option (Wd × (Int32 ⊕ Nat))
  | 0, _, _, _, _, _, _ => none
  | n + 1, k8, x1, x2, x4, x5, w =>
    if (gI w 8 13) ≤ x5 then
      b_X1_piercingPoint_77 d k8 x1 x2 x4 w
    else
      if ib x5 100 = true then
        (gR w 19 x5.toNatClampNeg).bind fun a7 =>
        if x4 < (gI w a7 1) then
          b_X1_piercingPoint_77 d k8 x1 x2 x4 w
        else
          b_X1_piercingPoint_30 d n k8 x1 x2 (mmin x4 (gI w a7 2)) (x5 + 1) w
      else none
def b_X1_piercingPoint_8 (d : Nat) : Nat → Int32 → Int32 → Int32 → Wd → Option (Wd × (Int32 ⊕ Nat))
  | 0, _, _, _, _ => none
  | n + 1, x1, x2, x3, w =>
    if (gI w 8 13) ≤ x3 then
      if 8 ≤ d then
        if room w 6 = true then
          some (nw w 43 0 6, .inr (gN w))
        else none
      else none
    else
      if ib x3 100 = true then
        (gR w 19 x3.toNatClampNeg).bind fun a5 =>
        b_X1_piercingPoint_30 d FU (b_X1_piercingPoint_8 d n) x1 x2 (gI w a5 2) x3 w
      else none
def f_X1_piercingPoint (d : Nat) (p1 : Int32) (w : Wd) : Option (Wd × (Int32 ⊕ Nat)) :=
  match d with
  | 0 => none
  | d + 1 =>
    (f_X1_collectLive d w).bind fun r1 =>
    b_X1_piercingPoint_8 d FU p1 0 0 r1.1
theorem sb_X1_piercingPoint_118 {G : Gx} (hG : GW G) {M : Mx} (hl : (mL M).stackTraces = false) {w0 : Wd} {d : Nat} (K : Cx (G, true, M, 6, w0) cX1_piercingPoint "IntervalTree" (d + 1)) (hr : (mH M).sig.returnType = some .int) (hnm : (mH M).name = yX1_piercingPoint.name) (hxt : ∀ x ∈ (mC M).exceptionTable.toList, False) (hnd : (mS M).methodNamed? yX1_piercingPoint = some (mM M)) {k8 : Int32 → Int32 → Int32 → Wd → Option (Wd × (Int32 ⊕ Nat))} (hk8 : ∀ (x1 : Int32) (x2 : Int32) (x3 : Int32) (w : Wd) (fx1 : Bool) (fx2 : Bool) (fx3 : Bool), Jf (G, true, M, 6, w0) (rrX G pI) (k8 x1 x2 x3 w) w 8 [some (aR 1 (some 8)), some (aB fx1 x1), some (aB fx2 x2), some (aB fx3 x3), none, none] []) : ∀ (x1 : Int32) (x2 : Int32) (x3 : Int32) (w : Wd) (fx1 : Bool) (fx2 : Bool) (fx3 : Bool), Jf (G, true, M, 6, w0) (rrX G pI) (b_X1_piercingPoint_118 d k8 x1 x2 x3 w) w 118 [some (aR 1 (some 8)), some (aB fx1 x1), some (aB fx2 x2), some (aB fx3 x3), none, none] [] := by
  intro x1 x2 x3 w fx1 fx2 fx3
  refine j_goto 8 K dX1_piercingPoint_118 (by decide) ?_
  exact j_wk (hk8 _ _ _ _ _ _ _) ⟨rfl, rfl, rfl, rfl, trivial⟩
theorem sb_X1_piercingPoint_90 {G : Gx} (hG : GW G) {M : Mx} (hl : (mL M).stackTraces = false) {w0 : Wd} {d : Nat} (K : Cx (G, true, M, 6, w0) cX1_piercingPoint "IntervalTree" (d + 1)) (hr : (mH M).sig.returnType = some .int) (hnm : (mH M).name = yX1_piercingPoint.name) (hxt : ∀ x ∈ (mC M).exceptionTable.toList, False) (hnd : (mS M).methodNamed? yX1_piercingPoint = some (mM M)) {k8 : Int32 → Int32 → Int32 → Wd → Option (Wd × (Int32 ⊕ Nat))} (hk8 : ∀ (x1 : Int32) (x2 : Int32) (x3 : Int32) (w : Wd) (fx1 : Bool) (fx2 : Bool) (fx3 : Bool), Jf (G, true, M, 6, w0) (rrX G pI) (k8 x1 x2 x3 w) w 8 [some (aR 1 (some 8)), some (aB fx1 x1), some (aB fx2 x2), some (aB fx3 x3), none, none] []) : ∀ (n : Nat), ∀ (x1 : Int32) (x2 : Int32) (x3 : Int32) (x4 : Int32) (w : Wd) (fx1 : Bool) (fx2 : Bool) (fx3 : Bool) (fx4 : Bool), Jf (G, true, M, 6, w0) (rrX G pI) (b_X1_piercingPoint_90 d n k8 x1 x2 x3 x4 w) w 90 [some (aR 1 (some 8)), some (aB fx1 x1), some (aB fx2 x2), some (aB fx3 x3), some (aB fx4 x4), none] [] := by
  intro n
  induction n with
  | zero => intros; exact j_none
  | succ n ih =>
    intro x1 x2 x3 x4 w fx1 fx2 fx3 fx4
    refine j_iload_n K dX1_piercingPoint_90 rfl ?_
    refine j_aload_n K dX1_piercingPoint_91 rfl ?_
    refine j_getI (k := 13) K dX1_piercingPoint_92 rfl rfl rfl q194 rfl rfl rfl ?_
    refine j_icmp_ge 118 K dX1_piercingPoint_95 (by decide) ?_ ?_
    · exact j_wk (sb_X1_piercingPoint_118 hG hl K hr hnm hxt hnd hk8 _ _ _ _ _ _ _) ⟨rfl, rfl, rfl, rfl, trivial⟩
    · refine j_aload_n K dX1_piercingPoint_98 rfl ?_
      refine j_getA (k := 12) 4 K dX1_piercingPoint_99 rfl rfl rfl q193 rfl rfl (by decide) rfl rfl rfl ?_
      refine j_iload_n K dX1_piercingPoint_102 rfl ?_
      refine j_ib (fun hi6 => ?_)
      refine j_aal K dX1_piercingPoint_103 rfl (fun _ => rfl) (by decide) rfl rfl (fxLen 4 rfl rfl) hi6 ?_
      refine j_nn (fun a7 ha7 => ?_)
      refine j_getI (k := 1) K dX1_piercingPoint_104 rfl rfl rfl q543 rfl rfl ha7 ?_
      refine j_iload K dX1_piercingPoint_107 rfl ?_
      refine j_icmp_gt 118 K dX1_piercingPoint_109 (by decide) ?_ ?_
      · exact j_wk (sb_X1_piercingPoint_118 hG hl K hr hnm hxt hnd hk8 _ _ _ _ _ _ _) ⟨rfl, rfl, rfl, rfl, trivial⟩
      · refine j_iinc (y := 1) K dX1_piercingPoint_112 rfl rfl rfl rfl ?_
        refine j_goto 90 K dX1_piercingPoint_115 (by decide) ?_
        exact j_wk (ih _ _ _ _ _ _ _ _ _) ⟨rfl, rfl, rfl, rfl, rfl, trivial⟩
theorem sb_X1_piercingPoint_77 {G : Gx} (hG : GW G) {M : Mx} (hl : (mL M).stackTraces = false) {w0 : Wd} {d : Nat} (K : Cx (G, true, M, 6, w0) cX1_piercingPoint "IntervalTree" (d + 1)) (hr : (mH M).sig.returnType = some .int) (hnm : (mH M).name = yX1_piercingPoint.name) (hxt : ∀ x ∈ (mC M).exceptionTable.toList, False) (hnd : (mS M).methodNamed? yX1_piercingPoint = some (mM M)) {k8 : Int32 → Int32 → Int32 → Wd → Option (Wd × (Int32 ⊕ Nat))} (hk8 : ∀ (x1 : Int32) (x2 : Int32) (x3 : Int32) (w : Wd) (fx1 : Bool) (fx2 : Bool) (fx3 : Bool), Jf (G, true, M, 6, w0) (rrX G pI) (k8 x1 x2 x3 w) w 8 [some (aR 1 (some 8)), some (aB fx1 x1), some (aB fx2 x2), some (aB fx3 x3), none, none] []) : ∀ (x1 : Int32) (x2 : Int32) (x4 : Int32) (w : Wd) (fx1 : Bool) (fx2 : Bool) (fx4 : Bool), Jf (G, true, M, 6, w0) (rrX G pI) (b_X1_piercingPoint_77 d k8 x1 x2 x4 w) w 77 [some (aR 1 (some 8)), some (aB fx1 x1), some (aB fx2 x2), none, some (aB fx4 x4), none] [] := by
  intro x1 x2 x4 w fx1 fx2 fx4
  refine j_iload_n K dX1_piercingPoint_77 rfl ?_
  refine j_iload_n K dX1_piercingPoint_78 rfl ?_
  refine j_icmp_ne 85 K dX1_piercingPoint_79 (by decide) ?_ ?_
  · refine j_iinc (y := 1) K dX1_piercingPoint_85 rfl rfl rfl rfl ?_
    refine j_iconstZ K dX1_piercingPoint_88 rfl (Or.inl rfl) ?_
    refine j_istore_n K dX1_piercingPoint_89 rfl rfl ?_
    exact j_wk (sb_X1_piercingPoint_90 hG hl K hr hnm hxt hnd hk8 FU _ _ _ _ _ _ _ _ _) ⟨rfl, rfl, rfl, rfl, rfl, trivial⟩
  · refine j_iload K dX1_piercingPoint_82 rfl ?_
    exact j_iretX K hr dX1_piercingPoint_84
theorem sb_X1_piercingPoint_30 {G : Gx} (hG : GW G) {M : Mx} (hl : (mL M).stackTraces = false) {w0 : Wd} {d : Nat} (K : Cx (G, true, M, 6, w0) cX1_piercingPoint "IntervalTree" (d + 1)) (hr : (mH M).sig.returnType = some .int) (hnm : (mH M).name = yX1_piercingPoint.name) (hxt : ∀ x ∈ (mC M).exceptionTable.toList, False) (hnd : (mS M).methodNamed? yX1_piercingPoint = some (mM M)) {k8 : Int32 → Int32 → Int32 → Wd → Option (Wd × (Int32 ⊕ Nat))} (hk8 : ∀ (x1 : Int32) (x2 : Int32) (x3 : Int32) (w : Wd) (fx1 : Bool) (fx2 : Bool) (fx3 : Bool), Jf (G, true, M, 6, w0) (rrX G pI) (k8 x1 x2 x3 w) w 8 [some (aR 1 (some 8)), some (aB fx1 x1), some (aB fx2 x2), some (aB fx3 x3), none, none] []) : ∀ (n : Nat), ∀ (x1 : Int32) (x2 : Int32) (x4 : Int32) (x5 : Int32) (w : Wd) (fx1 : Bool) (fx2 : Bool) (fx4 : Bool) (fx5 : Bool), Jf (G, true, M, 6, w0) (rrX G pI) (b_X1_piercingPoint_30 d n k8 x1 x2 x4 x5 w) w 30 [some (aR 1 (some 8)), some (aB fx1 x1), some (aB fx2 x2), none, some (aB fx4 x4), some (aB fx5 x5)] [] := by
  intro n
  induction n with
  | zero => intros; exact j_none
  | succ n ih =>
    intro x1 x2 x4 x5 w fx1 fx2 fx4 fx5
    refine j_iload K dX1_piercingPoint_30 rfl ?_
    refine j_aload_n K dX1_piercingPoint_32 rfl ?_
    refine j_getI (k := 13) K dX1_piercingPoint_33 rfl rfl rfl q194 rfl rfl rfl ?_
    refine j_icmp_ge 77 K dX1_piercingPoint_36 (by decide) ?_ ?_
    · exact j_wk (sb_X1_piercingPoint_77 hG hl K hr hnm hxt hnd hk8 _ _ _ _ _ _ _) ⟨rfl, rfl, rfl, rfl, trivial⟩
    · refine j_aload_n K dX1_piercingPoint_39 rfl ?_
      refine j_getA (k := 12) 4 K dX1_piercingPoint_40 rfl rfl rfl q193 rfl rfl (by decide) rfl rfl rfl ?_
      refine j_iload K dX1_piercingPoint_43 rfl ?_
      refine j_ib (fun hi6 => ?_)
      refine j_aal K dX1_piercingPoint_45 rfl (fun _ => rfl) (by decide) rfl rfl (fxLen 4 rfl rfl) hi6 ?_
      refine j_nn (fun a7 ha7 => ?_)
      refine j_getI (k := 1) K dX1_piercingPoint_46 rfl rfl rfl q543 rfl rfl ha7 ?_
      refine j_iload K dX1_piercingPoint_49 rfl ?_
      refine j_icmp_gt 77 K dX1_piercingPoint_51 (by decide) ?_ ?_
      · exact j_wk (sb_X1_piercingPoint_77 hG hl K hr hnm hxt hnd hk8 _ _ _ _ _ _ _) ⟨rfl, rfl, rfl, rfl, trivial⟩
      · refine j_iload K dX1_piercingPoint_54 rfl ?_
        refine j_aload_n K dX1_piercingPoint_56 rfl ?_
        refine j_getA (k := 12) 4 K dX1_piercingPoint_57 rfl rfl rfl q193 rfl rfl (by decide) rfl rfl rfl ?_
        refine j_iload K dX1_piercingPoint_60 rfl ?_
        refine j_aal K dX1_piercingPoint_62 rfl (fun _ => rfl) (by decide) rfl rfl (fxLen 4 rfl rfl) hi6 ?_
        refine j_getI (k := 2) K dX1_piercingPoint_63 rfl rfl rfl q545 rfl rfl ha7 ?_
        refine j_mmin K dX1_piercingPoint_66 q887 rfl ?_
        refine j_istore K dX1_piercingPoint_69 rfl rfl ?_
        refine j_iinc (y := 1) K dX1_piercingPoint_71 rfl rfl rfl rfl ?_
        refine j_goto 30 K dX1_piercingPoint_74 (by decide) ?_
        exact j_wk (ih _ _ _ _ _ _ _ _ _) ⟨rfl, rfl, rfl, rfl, rfl, trivial⟩
theorem sb_X1_piercingPoint_8 {G : Gx} (hG : GW G) {M : Mx} (hl : (mL M).stackTraces = false) {w0 : Wd} {d : Nat} (K : Cx (G, true, M, 6, w0) cX1_piercingPoint "IntervalTree" (d + 1)) (hr : (mH M).sig.returnType = some .int) (hnm : (mH M).name = yX1_piercingPoint.name) (hxt : ∀ x ∈ (mC M).exceptionTable.toList, False) (hnd : (mS M).methodNamed? yX1_piercingPoint = some (mM M)) : ∀ (n : Nat), ∀ (x1 : Int32) (x2 : Int32) (x3 : Int32) (w : Wd) (fx1 : Bool) (fx2 : Bool) (fx3 : Bool), Jf (G, true, M, 6, w0) (rrX G pI) (b_X1_piercingPoint_8 d n x1 x2 x3 w) w 8 [some (aR 1 (some 8)), some (aB fx1 x1), some (aB fx2 x2), some (aB fx3 x3), none, none] [] := by
  intro n
  induction n with
  | zero => intros; exact j_none
  | succ n ih =>
    intro x1 x2 x3 w fx1 fx2 fx3
    refine j_iload_n K dX1_piercingPoint_8 rfl ?_
    refine j_aload_n K dX1_piercingPoint_9 rfl ?_
    refine j_getI (k := 13) K dX1_piercingPoint_10 rfl rfl rfl q194 rfl rfl rfl ?_
    refine j_icmp_ge 121 K dX1_piercingPoint_13 (by decide) ?_ ?_
    · refine j_dp (fun h82 => ?_)
      refine j_rm (fun hr3 => ?_)
      refine j_mkW (kd := 43) K rfl (by decide +kernel) (by decide +kernel) rfl q853 q104 q906 at_X1_43_1 at_X1_43_2 at_X1_43_3 rfl dX1_piercingPoint_121 dX1_piercingPoint_124 dX1_piercingPoint_125 dX1_piercingPoint_128 (Nat.le_succ_of_le h82) hr3 rfl ?_
      refine j_athrow K dX1_piercingPoint_131 ?_
      exact j_outN K hxt rfl
    · refine j_aload_n K dX1_piercingPoint_16 rfl ?_
      refine j_getA (k := 12) 4 K dX1_piercingPoint_17 rfl rfl rfl q193 rfl rfl (by decide) rfl rfl rfl ?_
      refine j_iload_n K dX1_piercingPoint_20 rfl ?_
      refine j_ib (fun hi4 => ?_)
      refine j_aal K dX1_piercingPoint_21 rfl (fun _ => rfl) (by decide) rfl rfl (fxLen 4 rfl rfl) hi4 ?_
      refine j_nn (fun a5 ha5 => ?_)
      refine j_getI (k := 2) K dX1_piercingPoint_22 rfl rfl rfl q545 rfl rfl ha5 ?_
      refine j_istore K dX1_piercingPoint_25 rfl rfl ?_
      refine j_iload_n K dX1_piercingPoint_27 rfl ?_
      refine j_istore K dX1_piercingPoint_28 rfl rfl ?_
      exact j_wk (sb_X1_piercingPoint_30 hG hl K hr hnm hxt hnd ih FU _ _ _ _ _ _ _ _ _) ⟨rfl, rfl, rfl, rfl, rfl, trivial⟩
theorem sim_X1_piercingPoint {G : Gx} (hG : GW G) {l : Launch} (hl : l.stackTraces = false) (d : Nat) (p1 : Int32) (w : Wd) (fp1 : Bool) : Mt G true l yX1_piercingPoint (ws_ yX1_piercingPoint cX1_piercingPoint 6 (some .int)) d (rrX G pI) [aR 1 (some 8), aB fp1 p1] w (f_X1_piercingPoint d p1 w) := by
  refine Mt.of (own := "IntervalTree") hG hl (by decide +kernel) rfl rfl ?_
  intro M hM hr hnm hxt hnd K
  subst hM
  cases d with
  | zero => exact j_none
  | succ d =>
    refine j_aload_n K dX1_piercingPoint_0 rfl ?_
    refine j_callV _ K (sim_X1_collectLive hG hl d w) dX1_piercingPoint_1 rfl rfl q297 q299 qs3 q93 q300 pm_X1_collectLive rfl rfl rfl rfl rfl (fun r1 _ => ?_)
    refine j_iconstZ K dX1_piercingPoint_4 rfl (Or.inl rfl) ?_
    refine j_istore_n K dX1_piercingPoint_5 rfl rfl ?_
    refine j_iconstZ K dX1_piercingPoint_6 rfl (Or.inl rfl) ?_
    refine j_istore_n K dX1_piercingPoint_7 rfl rfl ?_
    exact j_wk (sb_X1_piercingPoint_8 hG hl K hr hnm hxt hnd FU _ _ _ _ _ _ _) ⟨rfl, rfl, rfl, rfl, trivial⟩

theorem pm_X1_checkFilterSpace : yX1_checkFilterSpace.cls = RX1 ∧ yX1_checkFilterSpace.cls ≠ "java/lang/invoke/MethodHandle" ∧ yX1_checkFilterSpace.cls ≠ "java/lang/invoke/VarHandle" ∧ (parseMethodDescriptor yX1_checkFilterSpace.desc).map (fun d => d.parameters.length) = some 0 := by decide +kernel
def f_X1_checkFilterSpace (d : Nat) (w : Wd) : Option (Wd × (Unit ⊕ Nat)) :=
  match d with
  | 0 => none
  | d + 1 =>
    if (gI w 8 11) = 8 then
      if 8 ≤ d then
        if room w 6 = true then
          some (nw w 41 0 6, .inr (gN w))
        else none
      else none
    else
      some (w, .inl ())
theorem sim_X1_checkFilterSpace {G : Gx} (hG : GW G) {l : Launch} (hl : l.stackTraces = false) (d : Nat) (w : Wd) : Mt G true l yX1_checkFilterSpace (ws_ yX1_checkFilterSpace cX1_checkFilterSpace 1 (none)) d (rrX G pU) [aR 1 (some 8)] w (f_X1_checkFilterSpace d w) := by
  refine Mt.of (own := "IntervalTree") hG hl (by decide +kernel) rfl rfl ?_
  intro M hM hr hnm hxt hnd K
  subst hM
  cases d with
  | zero => exact j_none
  | succ d =>
    refine j_aload_n K dX1_checkFilterSpace_0 rfl ?_
    refine j_getI (k := 11) K dX1_checkFilterSpace_1 rfl rfl rfl q192 rfl rfl rfl ?_
    refine j_bipush (x := 8) K dX1_checkFilterSpace_4 (by decide +kernel) ?_
    refine j_icmp_ne 20 K dX1_checkFilterSpace_6 (by decide) ?_ ?_
    · exact j_vretX K hr dX1_checkFilterSpace_20
    · refine j_dp (fun h81 => ?_)
      refine j_rm (fun hr2 => ?_)
      refine j_mkW (kd := 41) K rfl (by decide +kernel) (by decide +kernel) rfl q520 q100 q925 at_X1_41_1 at_X1_41_2 at_X1_41_3 rfl dX1_checkFilterSpace_9 dX1_checkFilterSpace_12 dX1_checkFilterSpace_13 dX1_checkFilterSpace_16 (Nat.le_succ_of_le h81) hr2 rfl ?_
      refine j_athrow K dX1_checkFilterSpace_19 ?_
      exact j_outN K hxt rfl

theorem pm_X1_addFilter : yX1_addFilter.cls = RX1 ∧ yX1_addFilter.cls ≠ "java/lang/invoke/MethodHandle" ∧ yX1_addFilter.cls ≠ "java/lang/invoke/VarHandle" ∧ (parseMethodDescriptor yX1_addFilter.desc).map (fun d => d.parameters.length) = some 1 := by decide +kernel
def f_X1_addFilter (d : Nat) (p1 : Option Nat) (w : Wd) : Option (Wd × Int32) :=
  match d with
  | 0 => none
  | d + 1 =>
    if ib (gI w 8 11) 8 = true then
      some (sI (sR w 10 (gI w 8 11).toNatClampNeg p1) 8 11 ((gI (sR w 10 (gI w 8 11).toNatClampNeg p1) 8 11) + 1), ((gI (sI (sR w 10 (gI w 8 11).toNatClampNeg p1) 8 11 ((gI (sR w 10 (gI w 8 11).toNatClampNeg p1) 8 11) + 1)) 8 11) - 1))
    else none
theorem sim_X1_addFilter {G : Gx} (hG : GW G) {l : Launch} (hl : l.stackTraces = false) (d : Nat) (p1 : Option Nat) (w : Wd) : Mt G true l yX1_addFilter (ws_ yX1_addFilter cX1_addFilter 2 (some .int)) d (rrV G pI) [aR 1 (some 8), aR 50 p1] w (f_X1_addFilter d p1 w) := by
  refine Mt.of (own := "IntervalTree") hG hl (by decide +kernel) rfl rfl ?_
  intro M hM hr hnm hxt hnd K
  subst hM
  cases d with
  | zero => exact j_none
  | succ d =>
    refine j_aload_n K dX1_addFilter_0 rfl ?_
    refine j_getA (k := 1) 1 K dX1_addFilter_1 rfl rfl rfl q180 rfl rfl (by decide) rfl rfl rfl ?_
    refine j_aload_n K dX1_addFilter_4 rfl ?_
    refine j_getI (k := 11) K dX1_addFilter_5 rfl rfl rfl q192 rfl rfl rfl ?_
    refine j_aload_n K dX1_addFilter_8 rfl ?_
    refine j_ib (fun hi1 => ?_)
    refine j_aasI K dX1_addFilter_9 (by decide) (by decide) rfl (fun _ => rfl) rfl rfl (fxLen2 1 rfl rfl) hi1 ?_
    refine j_aload_n K dX1_addFilter_10 rfl ?_
    refine j_dup K dX1_addFilter_11 rfl ?_
    refine j_getI (k := 11) K dX1_addFilter_12 rfl rfl rfl q192 rfl rfl rfl ?_
    refine j_iconstZ K dX1_addFilter_15 rfl (Or.inr rfl) ?_
    refine j_iadd K dX1_addFilter_16 ?_
    refine j_putI (k := 11) K dX1_addFilter_17 rfl rfl q192 rfl (Or.inl rfl) rfl rfl rfl rfl ?_
    refine j_aload_n K dX1_addFilter_20 rfl ?_
    refine j_getI (k := 11) K dX1_addFilter_21 rfl rfl rfl q192 rfl rfl rfl ?_
    refine j_iconstZ K dX1_addFilter_24 rfl (Or.inr rfl) ?_
    refine j_isub K dX1_addFilter_25 ?_
    exact j_iret K hr dX1_addFilter_26

theorem pm_X1_addRangeFilter : yX1_addRangeFilter.cls = RX1 ∧ yX1_addRangeFilter.cls ≠ "java/lang/invoke/MethodHandle" ∧ yX1_addRangeFilter.cls ≠ "java/lang/invoke/VarHandle" ∧ (parseMethodDescriptor yX1_addRangeFilter.desc).map (fun d => d.parameters.length) = some 3 := by decide +kernel
def b_X1_addRangeFilter_19 (d : Nat) (x1 : Int32) (x2 : Int32) (x3 : Int32) (s0 : Int32) (w : Wd) : Option (Wd × (Int32 ⊕ Nat)) :=
  bX (f_X1_check d s0 w) fun wr2 r2 =>
  bX (f_X1_checkFilterSpace d wr2) fun wr3 r3 =>
  if ib x1 4 = true then
    if 49 ≤ d then
      (nwB wr3 32 3 3).bind fun w6 =>
      (f_X1_addFilter d (some (gN wr3)) (setAs w6 (gN wr3) 0 [aR 51 (gR wr3 11 x1.toNatClampNeg), aI x2, aI x3])).bind fun r7 =>
      some (r7.1, .inl r7.2)
    else none
  else none
def b_X1_addRangeFilter_18 (d : Nat) (x1 : Int32) (x2 : Int32) (x3 : Int32) (w : Wd) : Option (Wd × (Int32 ⊕ Nat)) :=
  b_X1_addRangeFilter_19 d x1 x2 x3 0 w
def f_X1_addRangeFilter (d : Nat) (p1 : Int32) (p2 : Int32) (p3 : Int32) (w : Wd) : Option (Wd × (Int32 ⊕ Nat)) :=
  match d with
  | 0 => none
  | d + 1 =>
    (f_X1_isBetween d p1 0 3 w).bind fun r1 =>
    if r1.2 = 0 then
      b_X1_addRangeFilter_18 d p1 p2 p3 r1.1
    else
      if p3 < p2 then
        b_X1_addRangeFilter_18 d p1 p2 p3 r1.1
      else
        b_X1_addRangeFilter_19 d p1 p2 p3 1 r1.1
theorem sb_X1_addRangeFilter_19 {G : Gx} (hG : GW G) {M : Mx} (hl : (mL M).stackTraces = false) {w0 : Wd} {d : Nat} (K : Cx (G, true, M, 5, w0) cX1_addRangeFilter "IntervalTree" (d + 1)) (hr : (mH M).sig.returnType = some .int) (hnm : (mH M).name = yX1_addRangeFilter.name) (hxt : ∀ x ∈ (mC M).exceptionTable.toList, False) (hnd : (mS M).methodNamed? yX1_addRangeFilter = some (mM M)) : ∀ (x1 : Int32) (x2 : Int32) (x3 : Int32) (s0 : Int32) (w : Wd) (fx1 : Bool) (fx2 : Bool) (fx3 : Bool), Jf (G, true, M, 5, w0) (rrX G pI) (b_X1_addRangeFilter_19 d x1 x2 x3 s0 w) w 19 [some (aR 1 (some 8)), some (aB fx1 x1), some (aB fx2 x2), some (aB fx3 x3), none] [aB true s0] := by
  intro x1 x2 x3 s0 w fx1 fx2 fx3
  refine j_callSX _ K hxt (sim_X1_check hG hl d s0 w) dX1_addRangeFilter_19 q447 q448 q93 q449 pm_X1_check.2 rfl rfl rfl rfl (fun wr2 r2 _ => ?_)
  refine j_aload_n K dX1_addRangeFilter_22 rfl ?_
  refine j_callVX _ K hxt (sim_X1_checkFilterSpace hG hl d wr2) dX1_addRangeFilter_23 rfl rfl q921 q923 qs31 q93 q924 pm_X1_checkFilterSpace rfl rfl rfl rfl rfl (fun wr3 r3 _ => ?_)
  refine j_aload_n K dX1_addRangeFilter_26 rfl ?_
  refine j_getA (k := 2) 2 K dX1_addRangeFilter_27 rfl rfl rfl q182 rfl rfl (by decide) rfl rfl rfl ?_
  refine j_iload_n K dX1_addRangeFilter_30 rfl ?_
  refine j_ib (fun hi4 => ?_)
  refine j_aal K dX1_addRangeFilter_31 rfl (fun _ => rfl) (by decide) rfl rfl (fxLen 2 rfl rfl) hi4 ?_
  refine j_astore K dX1_addRangeFilter_32 rfl rfl ?_
  refine j_aload_n K dX1_addRangeFilter_34 rfl ?_
  refine j_aload K dX1_addRangeFilter_35 rfl ?_
  refine j_iload_n K dX1_addRangeFilter_37 rfl ?_
  refine j_iload_n K dX1_addRangeFilter_38 rfl ?_
  refine j_if (fun hd5 => ?_)
  refine j_indyM (kd := 32) (t := 50) [aR 51 (gR wr3 11 x1.toNatClampNeg), aB fx2 x2, aB fx3 x3] K hnd (by decide) (by decide) rfl rfl rfl dX1_addRangeFilter_39 rfl rfl (by decide) rfl hd5 rfl rfl (fun w6 => ?_)
  refine j_callV _ K (sim_X1_addFilter hG hl d (some (gN wr3)) (setAs w6 (gN wr3) 0 [aR 51 (gR wr3 11 x1.toNatClampNeg), aI x2, aI x3])) dX1_addRangeFilter_44 rfl rfl q932 q934 qs32 q93 q935 pm_X1_addFilter rfl rfl rfl rfl rfl (fun r7 _ => ?_)
  exact j_iretX K hr dX1_addRangeFilter_47
theorem sb_X1_addRangeFilter_18 {G : Gx} (hG : GW G) {M : Mx} (hl : (mL M).stackTraces = false) {w0 : Wd} {d : Nat} (K : Cx (G, true, M, 5, w0) cX1_addRangeFilter "IntervalTree" (d + 1)) (hr : (mH M).sig.returnType = some .int) (hnm : (mH M).name = yX1_addRangeFilter.name) (hxt : ∀ x ∈ (mC M).exceptionTable.toList, False) (hnd : (mS M).methodNamed? yX1_addRangeFilter = some (mM M)) : ∀ (x1 : Int32) (x2 : Int32) (x3 : Int32) (w : Wd) (fx1 : Bool) (fx2 : Bool) (fx3 : Bool), Jf (G, true, M, 5, w0) (rrX G pI) (b_X1_addRangeFilter_18 d x1 x2 x3 w) w 18 [some (aR 1 (some 8)), some (aB fx1 x1), some (aB fx2 x2), some (aB fx3 x3), none] [] := by
  intro x1 x2 x3 w fx1 fx2 fx3
  refine j_iconstZ K dX1_addRangeFilter_18 rfl (Or.inl rfl) ?_
  exact j_wk (sb_X1_addRangeFilter_19 hG hl K hr hnm hxt hnd _ _ _ _ _ _ _ _) ⟨rfl, rfl, rfl, rfl, trivial⟩
theorem sim_X1_addRangeFilter {G : Gx} (hG : GW G) {l : Launch} (hl : l.stackTraces = false) (d : Nat) (p1 : Int32) (p2 : Int32) (p3 : Int32) (w : Wd) (fp1 : Bool) (fp2 : Bool) (fp3 : Bool) : Mt G true l yX1_addRangeFilter (ws_ yX1_addRangeFilter cX1_addRangeFilter 5 (some .int)) d (rrX G pI) [aR 1 (some 8), aB fp1 p1, aB fp2 p2, aB fp3 p3] w (f_X1_addRangeFilter d p1 p2 p3 w) := by
  refine Mt.of (own := "IntervalTree") hG hl (by decide +kernel) rfl rfl ?_
  intro M hM hr hnm hxt hnd K
  subst hM
  cases d with
  | zero => exact j_none
  | succ d =>
    refine j_iload_n K dX1_addRangeFilter_0 rfl ?_
    refine j_iconstZ K dX1_addRangeFilter_1 rfl (Or.inl rfl) ?_
    refine j_iconst (x := 3) K dX1_addRangeFilter_2 rfl ?_
    refine j_callS _ K (sim_X1_isBetween hG hl d p1 0 3 w fp1 true false) dX1_addRangeFilter_3 q444 q445 q93 q446 pm_X1_isBetween.2 rfl rfl rfl rfl (fun r1 _ => ?_)
    refine j_if_eq 18 K dX1_addRangeFilter_6 (by decide) ?_ ?_
    · exact j_wk (sb_X1_addRangeFilter_18 hG hl K hr hnm hxt hnd _ _ _ _ _ _ _) ⟨rfl, rfl, rfl, rfl, trivial⟩
    · refine j_iload_n K dX1_addRangeFilter_9 rfl ?_
      refine j_iload_n K dX1_addRangeFilter_10 rfl ?_
      refine j_icmp_gt 18 K dX1_addRangeFilter_11 (by decide) ?_ ?_
      · exact j_wk (sb_X1_addRangeFilter_18 hG hl K hr hnm hxt hnd _ _ _ _ _ _ _) ⟨rfl, rfl, rfl, rfl, trivial⟩
      · refine j_iconstZ K dX1_addRangeFilter_14 rfl (Or.inr rfl) ?_
        refine j_goto 19 K dX1_addRangeFilter_15 (by decide) ?_
        exact j_wk (sb_X1_addRangeFilter_19 hG hl K hr hnm hxt hnd _ _ _ _ _ _ _ _) ⟨rfl, rfl, rfl, rfl, trivial⟩

def f_OFP (d : Nat) (b : Nat) (p : Option Nat) (w : Wd) : Option (Wd × Int32) :=
  match d with
  | 0 => none
  | d + 1 =>
    if gK w b = 20 then
      if gL w b = 0 then
        f_X1_lambda_new_0 d p w
      else none
    else
      if gK w b = 21 then
        if gL w b = 0 then
          f_X1_lambda_new_1 d p w
        else none
      else
        if gK w b = 22 then
          if gL w b = 1 then
            if gR w b 0 = some 8 then f_X1_weightOf d p w else none
          else none
        else
          if gK w b = 23 then
            if gL w b = 0 then
              f_X1_lambda_new_2 d p w
            else none
          else
            none
theorem sim_OFP {G : Gx} (hG : GW G) {l : Launch} (hl : l.stackTraces = false) (d : Nat) (b : Nat) (p : Option Nat) (w : Wd) : Mi G true l d pI b [aR 4 p] w (f_OFP d b p w) := by
  cases d with
  | zero => exact Mi.none
  | succ d =>
    refine Mi.ite (fun hk => ?_) (fun _ => ?_)
    · refine Mi.ite (fun hgl => ?_) (fun _ => Mi.none)
      exact Mi.of (kd := 20) (n := 1) (caps := []) hG (by decide) (by decide) hk hgl (by decide +kernel) rfl (fun hv => (fun _ h => by cases h)) (sim_X1_lambda_new_0 hG hl d p w) (Or.inl ⟨rfl, q132, rfl⟩) q93 q133 pm_X1_lambda_new_0.2 rfl (Or.inl ⟨rfl, rfl, fun r => ⟨r, rfl⟩⟩)
    refine Mi.ite (fun hk => ?_) (fun _ => ?_)
    · refine Mi.ite (fun hgl => ?_) (fun _ => Mi.none)
      exact Mi.of (kd := 21) (n := 1) (caps := []) hG (by decide) (by decide) hk hgl (by decide +kernel) rfl (fun hv => (fun _ h => by cases h)) (sim_X1_lambda_new_1 hG hl d p w) (Or.inl ⟨rfl, q134, rfl⟩) q93 q135 pm_X1_lambda_new_1.2 rfl (Or.inl ⟨rfl, rfl, fun r => ⟨r, rfl⟩⟩)
    refine Mi.ite (fun hk => ?_) (fun _ => ?_)
    · refine Mi.ite (fun hgl => ?_) (fun _ => Mi.none)
      refine Mi.ite (fun h7 => ?_) (fun _ => Mi.none)
      exact Mi.of (kd := 22) (n := 1) (caps := [aR 1 (some 8)]) hG (by decide) (by decide) hk hgl (by decide +kernel) (by show _ = [rf G (gR w b 0)]; rw [h7]; rfl) (fun hv => (okc (fun x e => hv 0 x (h7.trans e)) (fun _ h => by cases h))) (sim_X1_weightOf hG hl d p w) (Or.inr ⟨rfl, q137, qs0, rfl, rfl, _, rfl⟩) q93 q138 pm_X1_weightOf.2 rfl (Or.inl ⟨rfl, rfl, fun r => ⟨r, rfl⟩⟩)
    refine Mi.ite (fun hk => ?_) (fun _ => ?_)
    · refine Mi.ite (fun hgl => ?_) (fun _ => Mi.none)
      exact Mi.of (kd := 23) (n := 1) (caps := []) hG (by decide) (by decide) hk hgl (by decide +kernel) rfl (fun hv => (fun _ h => by cases h)) (sim_X1_lambda_new_2 hG hl d p w) (Or.inl ⟨rfl, q139, rfl⟩) q93 q140 pm_X1_lambda_new_2.2 rfl (Or.inl ⟨rfl, rfl, fun r => ⟨r, rfl⟩⟩)
    exact Mi.none

theorem pm_X1_lambda_addRangeFilter_10 : yX1_lambda_addRangeFilter_10.cls = RX1 ∧ yX1_lambda_addRangeFilter_10.cls ≠ "java/lang/invoke/MethodHandle" ∧ yX1_lambda_addRangeFilter_10.cls ≠ "java/lang/invoke/VarHandle" ∧ (parseMethodDescriptor yX1_lambda_addRangeFilter_10.desc).map (fun d => d.parameters.length) = some 4 := by decide +kernel
def f_X1_lambda_addRangeFilter_10 (d : Nat) (p1 : Option Nat) (p2 : Int32) (p3 : Int32) (p4 : Option Nat) (w : Wd) : Option (Wd × Int32) :=
  match d with
  | 0 => none
  | d + 1 =>
    (p1).bind fun a1 =>
    (f_OFP d a1 p4 w).bind fun r2 =>
    (f_X1_isBetween d r2.2 p2 p3 r2.1).bind fun r3 =>
    some (r3.1, r3.2)
theorem sim_X1_lambda_addRangeFilter_10 {G : Gx} (hG : GW G) {l : Launch} (hl : l.stackTraces = false) (d : Nat) (p1 : Option Nat) (p2 : Int32) (p3 : Int32) (p4 : Option Nat) (w : Wd) (fp2 : Bool) (fp3 : Bool) : Mt G true l yX1_lambda_addRangeFilter_10 (ws_ yX1_lambda_addRangeFilter_10 cX1_lambda_addRangeFilter_10 4 (some .boolean)) d (rrV G pZ) [aR 51 p1, aB fp2 p2, aB fp3 p3, aR 4 p4] w (f_X1_lambda_addRangeFilter_10 d p1 p2 p3 p4 w) := by
  refine Mt.of (own := "IntervalTree") hG hl (by decide +kernel) rfl rfl ?_
  intro M hM hr hnm hxt hnd K
  subst hM
  cases d with
  | zero => exact j_none
  | succ d =>
    refine j_aload_n K dX1_lambda_addRangeFilter_10_0 rfl ?_
    refine j_aload_n K dX1_lambda_addRangeFilter_10_1 rfl ?_
    refine j_nn (fun a1 ha1 => ?_)
    refine j_callM (t := 51) K (sim_OFP hG hl d a1 p4 w) dX1_lambda_addRangeFilter_10_2 (by decide) (by decide) q929 ha1 rfl (fun r2 _ => ?_)
    refine j_iload_n K dX1_lambda_addRangeFilter_10_7 rfl ?_
    refine j_iload_n K dX1_lambda_addRangeFilter_10_8 rfl ?_
    refine j_callS _ K (sim_X1_isBetween hG hl d r2.2 p2 p3 r2.1 false fp2 fp3) dX1_lambda_addRangeFilter_10_9 q444 q445 q93 q446 pm_X1_isBetween.2 rfl rfl rfl rfl (fun r3 _ => ?_)
    exact j_zret K hr dX1_lambda_addRangeFilter_10_12

theorem pm_X1_addHeavierFilter : yX1_addHeavierFilter.cls = RX1 ∧ yX1_addHeavierFilter.cls ≠ "java/lang/invoke/MethodHandle" ∧ yX1_addHeavierFilter.cls ≠ "java/lang/invoke/VarHandle" ∧ (parseMethodDescriptor yX1_addHeavierFilter.desc).map (fun d => d.parameters.length) = some 1 := by decide +kernel
def f_X1_addHeavierFilter (d : Nat) (p1 : Int32) (w : Wd) : Option (Wd × (Int32 ⊕ Nat)) :=
  match d with
  | 0 => none
  | d + 1 =>
    bX (f_X1_inTree d p1 w) fun wr1 r1 =>
    (f_X1_weightOf d r1 wr1).bind fun r2 =>
    bX (f_X1_checkFilterSpace d r2.1) fun wr3 r3 =>
    if 49 ≤ d then
      (nwB wr3 33 2 2).bind fun w5 =>
      (f_X1_addFilter d (some (gN wr3)) (setAs w5 (gN wr3) 0 [aR 1 (some 8), aI r2.2])).bind fun r6 =>
      some (r6.1, .inl r6.2)
    else none
theorem sim_X1_addHeavierFilter {G : Gx} (hG : GW G) {l : Launch} (hl : l.stackTraces = false) (d : Nat) (p1 : Int32) (w : Wd) (fp1 : Bool) : Mt G true l yX1_addHeavierFilter (ws_ yX1_addHeavierFilter cX1_addHeavierFilter 3 (some .int)) d (rrX G pI) [aR 1 (some 8), aB fp1 p1] w (f_X1_addHeavierFilter d p1 w) := by
  refine Mt.of (own := "IntervalTree") hG hl (by decide +kernel) rfl rfl ?_
  intro M hM hr hnm hxt hnd K
  subst hM
  cases d with
  | zero => exact j_none
  | succ d =>
    refine j_aload_n K dX1_addHeavierFilter_0 rfl ?_
    refine j_aload_n K dX1_addHeavierFilter_1 rfl ?_
    refine j_iload_n K dX1_addHeavierFilter_2 rfl ?_
    refine j_callVX _ K hxt (sim_X1_inTree hG hl d p1 w fp1) dX1_addHeavierFilter_3 rfl rfl q639 q641 qs20 q93 q642 pm_X1_inTree rfl rfl rfl rfl rfl (fun wr1 r1 _ => ?_)
    refine j_callV _ K (sim_X1_weightOf hG hl d r1 wr1) dX1_addHeavierFilter_6 rfl rfl q732 q137 qs0 q93 q138 pm_X1_weightOf rfl rfl rfl rfl rfl (fun r2 _ => ?_)
    refine j_istore_n K dX1_addHeavierFilter_9 rfl rfl ?_
    refine j_aload_n K dX1_addHeavierFilter_10 rfl ?_
    refine j_callVX _ K hxt (sim_X1_checkFilterSpace hG hl d r2.1) dX1_addHeavierFilter_11 rfl rfl q921 q923 qs31 q93 q924 pm_X1_checkFilterSpace rfl rfl rfl rfl rfl (fun wr3 r3 _ => ?_)
    refine j_aload_n K dX1_addHeavierFilter_14 rfl ?_
    refine j_aload_n K dX1_addHeavierFilter_15 rfl ?_
    refine j_iload_n K dX1_addHeavierFilter_16 rfl ?_
    refine j_if (fun hd4 => ?_)
    refine j_indyM (kd := 33) (t := 50) [aR 1 (some 8), aB false r2.2] K hnd (by decide) (by decide) rfl rfl rfl dX1_addHeavierFilter_17 rfl rfl (by decide) rfl hd4 rfl rfl (fun w5 => ?_)
    refine j_callV _ K (sim_X1_addFilter hG hl d (some (gN wr3)) (setAs w5 (gN wr3) 0 [aR 1 (some 8), aI r2.2])) dX1_addHeavierFilter_22 rfl rfl q932 q934 qs32 q93 q935 pm_X1_addFilter rfl rfl rfl rfl rfl (fun r6 _ => ?_)
    exact j_iretX K hr dX1_addHeavierFilter_25

theorem pm_X1_lambda_addHeavierFilter_11 : yX1_lambda_addHeavierFilter_11.cls = RX1 ∧ yX1_lambda_addHeavierFilter_11.cls ≠ "java/lang/invoke/MethodHandle" ∧ yX1_lambda_addHeavierFilter_11.cls ≠ "java/lang/invoke/VarHandle" ∧ (parseMethodDescriptor yX1_lambda_addHeavierFilter_11.desc).map (fun d => d.parameters.length) = some 2 := by decide +kernel
def f_X1_lambda_addHeavierFilter_11 (d : Nat) (p1 : Int32) (p2 : Option Nat) (w : Wd) : Option (Wd × Int32) :=
  match d with
  | 0 => none
  | d + 1 =>
    (f_X1_weightOf d p2 w).bind fun r1 =>
    if r1.2 ≤ p1 then
      some (r1.1, 0)
    else
      some (r1.1, 1)
theorem sim_X1_lambda_addHeavierFilter_11 {G : Gx} (hG : GW G) {l : Launch} (hl : l.stackTraces = false) (d : Nat) (p1 : Int32) (p2 : Option Nat) (w : Wd) (fp1 : Bool) : Mt G true l yX1_lambda_addHeavierFilter_11 (ws_ yX1_lambda_addHeavierFilter_11 cX1_lambda_addHeavierFilter_11 3 (some .boolean)) d (rrV G pZ) [aR 1 (some 8), aB fp1 p1, aR 4 p2] w (f_X1_lambda_addHeavierFilter_11 d p1 p2 w) := by
  refine Mt.of (own := "IntervalTree") hG hl (by decide +kernel) rfl rfl ?_
  intro M hM hr hnm hxt hnd K
  subst hM
  cases d with
  | zero => exact j_none
  | succ d =>
    refine j_aload_n K dX1_lambda_addHeavierFilter_11_0 rfl ?_
    refine j_aload_n K dX1_lambda_addHeavierFilter_11_1 rfl ?_
    refine j_callV _ K (sim_X1_weightOf hG hl d p2 w) dX1_lambda_addHeavierFilter_11_2 rfl rfl q732 q137 qs0 q93 q138 pm_X1_weightOf rfl rfl rfl rfl rfl (fun r1 _ => ?_)
    refine j_iload_n K dX1_lambda_addHeavierFilter_11_5 rfl ?_
    refine j_icmp_le 13 K dX1_lambda_addHeavierFilter_11_6 (by decide) ?_ ?_
    · refine j_iconstZ K dX1_lambda_addHeavierFilter_11_13 rfl (Or.inl rfl) ?_
      exact j_zret K hr dX1_lambda_addHeavierFilter_11_14
    · refine j_iconstZ K dX1_lambda_addHeavierFilter_11_9 rfl (Or.inr rfl) ?_
      refine j_goto 14 K dX1_lambda_addHeavierFilter_11_10 (by decide) ?_
      exact j_zret K hr dX1_lambda_addHeavierFilter_11_14

theorem pm_X1_isFilter : yX1_isFilter.cls = RX1 ∧ yX1_isFilter.cls ≠ "java/lang/invoke/MethodHandle" ∧ yX1_isFilter.cls ≠ "java/lang/invoke/VarHandle" ∧ (parseMethodDescriptor yX1_isFilter.desc).map (fun d => d.parameters.length) = some 1 := by decide +kernel
def f_X1_isFilter (d : Nat) (p1 : Int32) (w : Wd) : Option (Wd × Int32) :=
  match d with
  | 0 => none
  | d + 1 =>
    (f_X1_isBetween d p1 0 ((gI w 8 11) - 1) w).bind fun r1 =>
    some (r1.1, r1.2)
theorem sim_X1_isFilter {G : Gx} (hG : GW G) {l : Launch} (hl : l.stackTraces = false) (d : Nat) (p1 : Int32) (w : Wd) (fp1 : Bool) : Mt G true l yX1_isFilter (ws_ yX1_isFilter cX1_isFilter 2 (some .boolean)) d (rrV G pZ) [aR 1 (some 8), aB fp1 p1] w (f_X1_isFilter d p1 w) := by
  refine Mt.of (own := "IntervalTree") hG hl (by decide +kernel) rfl rfl ?_
  intro M hM hr hnm hxt hnd K
  subst hM
  cases d with
  | zero => exact j_none
  | succ d =>
    refine j_iload_n K dX1_isFilter_0 rfl ?_
    refine j_iconstZ K dX1_isFilter_1 rfl (Or.inl rfl) ?_
    refine j_aload_n K dX1_isFilter_2 rfl ?_
    refine j_getI (k := 11) K dX1_isFilter_3 rfl rfl rfl q192 rfl rfl rfl ?_
    refine j_iconstZ K dX1_isFilter_6 rfl (Or.inr rfl) ?_
    refine j_isub K dX1_isFilter_7 ?_
    refine j_callS _ K (sim_X1_isBetween hG hl d p1 0 ((gI w 8 11) - 1) w fp1 true false) dX1_isFilter_8 q444 q445 q93 q446 pm_X1_isBetween.2 rfl rfl rfl rfl (fun r1 _ => ?_)
    exact j_zret K hr dX1_isFilter_11

theorem pm_X1_all : yX1_all.cls = RX1 ∧ yX1_all.cls ≠ "java/lang/invoke/MethodHandle" ∧ yX1_all.cls ≠ "java/lang/invoke/VarHandle" ∧ (parseMethodDescriptor yX1_all.desc).map (fun d => d.parameters.length) = some 1 := by decide +kernel
def f_X1_all (d : Nat) (p1 : Option Nat) (w : Wd) : Option (Wd × Option Nat) :=
  match d with
  | 0 => none
  | d + 1 =>
    if 49 ≤ d then
      (nwB w 34 1 1).bind fun w2 =>
      some (setAs w2 (gN w) 0 [aR 15 p1], (some (gN w)))
    else none
theorem sim_X1_all {G : Gx} (hG : GW G) {l : Launch} (hl : l.stackTraces = false) (d : Nat) (p1 : Option Nat) (w : Wd) : Mt G true l yX1_all (ws_ yX1_all cX1_all 1 (some (.object "IntervalTree$Filter"))) d (rrV G (pR 50)) [aR 15 p1] w (f_X1_all d p1 w) := by
  refine Mt.of (own := "IntervalTree") hG hl (by decide +kernel) rfl rfl ?_
  intro M hM hr hnm hxt hnd K
  subst hM
  cases d with
  | zero => exact j_none
  | succ d =>
    refine j_aload_n K dX1_all_0 rfl ?_
    refine j_if (fun hd1 => ?_)
    refine j_indyM (kd := 34) (t := 50) [aR 15 p1] K hnd (by decide) (by decide) rfl rfl rfl dX1_all_1 rfl rfl (by decide) rfl hd1 rfl rfl (fun w2 => ?_)
    exact j_aret K hr (Or.inl ⟨_, rfl⟩) dX1_all_6

theorem pm_X1_any : yX1_any.cls = RX1 ∧ yX1_any.cls ≠ "java/lang/invoke/MethodHandle" ∧ yX1_any.cls ≠ "java/lang/invoke/VarHandle" ∧ (parseMethodDescriptor yX1_any.desc).map (fun d => d.parameters.length) = some 1 := by decide +kernel
def f_X1_any (d : Nat) (p1 : Option Nat) (w : Wd) : Option (Wd × Option Nat) :=
  match d with
  | 0 => none
  | d + 1 =>
    if 49 ≤ d then
      (nwB w 35 1 1).bind fun w2 =>
      some (setAs w2 (gN w) 0 [aR 15 p1], (some (gN w)))
    else none
theorem sim_X1_any {G : Gx} (hG : GW G) {l : Launch} (hl : l.stackTraces = false) (d : Nat) (p1 : Option Nat) (w : Wd) : Mt G true l yX1_any (ws_ yX1_any cX1_any 1 (some (.object "IntervalTree$Filter"))) d (rrV G (pR 50)) [aR 15 p1] w (f_X1_any d p1 w) := by
  refine Mt.of (own := "IntervalTree") hG hl (by decide +kernel) rfl rfl ?_
  intro M hM hr hnm hxt hnd K
  subst hM
  cases d with
  | zero => exact j_none
  | succ d =>
    refine j_aload_n K dX1_any_0 rfl ?_
    refine j_if (fun hd1 => ?_)
    refine j_indyM (kd := 35) (t := 50) [aR 15 p1] K hnd (by decide) (by decide) rfl rfl rfl dX1_any_1 rfl rfl (by decide) rfl hd1 rfl rfl (fun w2 => ?_)
    exact j_aret K hr (Or.inl ⟨_, rfl⟩) dX1_any_6

theorem pm_X1_not : yX1_not.cls = RX1 ∧ yX1_not.cls ≠ "java/lang/invoke/MethodHandle" ∧ yX1_not.cls ≠ "java/lang/invoke/VarHandle" ∧ (parseMethodDescriptor yX1_not.desc).map (fun d => d.parameters.length) = some 1 := by decide +kernel
def f_X1_not (d : Nat) (p1 : Option Nat) (w : Wd) : Option (Wd × Option Nat) :=
  match d with
  | 0 => none
  | d + 1 =>
    if 49 ≤ d then
      (nwB w 36 1 1).bind fun w2 =>
      some (setAs w2 (gN w) 0 [aR 50 p1], (some (gN w)))
    else none
theorem sim_X1_not {G : Gx} (hG : GW G) {l : Launch} (hl : l.stackTraces = false) (d : Nat) (p1 : Option Nat) (w : Wd) : Mt G true l yX1_not (ws_ yX1_not cX1_not 1 (some (.object "IntervalTree$Filter"))) d (rrV G (pR 50)) [aR 50 p1] w (f_X1_not d p1 w) := by
  refine Mt.of (own := "IntervalTree") hG hl (by decide +kernel) rfl rfl ?_
  intro M hM hr hnm hxt hnd K
  subst hM
  cases d with
  | zero => exact j_none
  | succ d =>
    refine j_aload_n K dX1_not_0 rfl ?_
    refine j_if (fun hd1 => ?_)
    refine j_indyM (kd := 36) (t := 50) [aR 50 p1] K hnd (by decide) (by decide) rfl rfl rfl dX1_not_1 rfl rfl (by decide) rfl hd1 rfl rfl (fun w2 => ?_)
    exact j_aret K hr (Or.inl ⟨_, rfl⟩) dX1_not_6

theorem pm_X1_addCombinedFilter : yX1_addCombinedFilter.cls = RX1 ∧ yX1_addCombinedFilter.cls ≠ "java/lang/invoke/MethodHandle" ∧ yX1_addCombinedFilter.cls ≠ "java/lang/invoke/VarHandle" ∧ (parseMethodDescriptor yX1_addCombinedFilter.desc).map (fun d => d.parameters.length) = some 3 := by decide +kernel
def b_X1_addCombinedFilter_30 (d : Nat) (x1 : Int32) (x2 : Int32) (x3 : Int32) (s0 : Int32) (w : Wd) : Option (Wd × (Int32 ⊕ Nat)) :=
  bX (f_X1_check d s0 w) fun wr2 r2 =>
  bX (f_X1_checkFilterSpace d wr2) fun wr3 r3 =>
  if ib x2 8 = true then
    if ib x3 8 = true then
      if x1 = 0 then
        (nwB wr3 15 2 2).bind fun w7 =>
        if ib 0 (gL w7 (gN wr3)) = true then
          if ib 1 (gL (sR w7 (gN wr3) (Int32.toNatClampNeg 0) (gR wr3 10 x2.toNatClampNeg)) (gN wr3)) = true then
            (f_X1_all d (some (gN wr3)) (sR (sR w7 (gN wr3) (Int32.toNatClampNeg 0) (gR wr3 10 x2.toNatClampNeg)) (gN wr3) (Int32.toNatClampNeg 1) (gR wr3 10 x3.toNatClampNeg))).bind fun r10 =>
            (f_X1_addFilter d r10.2 r10.1).bind fun r11 =>
            some (r11.1, .inl r11.2)
          else none
        else none
      else if x1 = 1 then
        (nwB wr3 15 2 2).bind fun w13 =>
        if ib 0 (gL w13 (gN wr3)) = true then
          if ib 1 (gL (sR w13 (gN wr3) (Int32.toNatClampNeg 0) (gR wr3 10 x2.toNatClampNeg)) (gN wr3)) = true then
            (f_X1_any d (some (gN wr3)) (sR (sR w13 (gN wr3) (Int32.toNatClampNeg 0) (gR wr3 10 x2.toNatClampNeg)) (gN wr3) (Int32.toNatClampNeg 1) (gR wr3 10 x3.toNatClampNeg))).bind fun r16 =>
            (f_X1_addFilter d r16.2 r16.1).bind fun r17 =>
            some (r17.1, .inl r17.2)
          else none
        else none
      else 
      (nwB wr3 15 2 2).bind fun w18 =>
      if ib 0 (gL w18 (gN wr3)) = true then
        (f_X1_not d (gR wr3 10 x3.toNatClampNeg) (sR w18 (gN wr3) (Int32.toNatClampNeg 0) (gR wr3 10 x2.toNatClampNeg))).bind fun r20 =>
        if ib 1 (gL r20.1 (gN wr3)) = true then
          (f_X1_all d (some (gN wr3)) (sR r20.1 (gN wr3) (Int32.toNatClampNeg 1) r20.2)).bind fun r22 =>
          (f_X1_addFilter d r22.2 r22.1).bind fun r23 =>
          some (r23.1, .inl r23.2)
        else none
      else none
    else none
  else none
def b_X1_addCombinedFilter_29 (d : Nat) (x1 : Int32) (x2 : Int32) (x3 : Int32) (w : Wd) : Option (Wd × (Int32 ⊕ Nat)) :=
  b_X1_addCombinedFilter_30 d x1 x2 x3 0 w
def f_X1_addCombinedFilter (d : Nat) (p1 : Int32) (p2 : Int32) (p3 : Int32) (w : Wd) : Option (Wd × (Int32 ⊕ Nat)) :=
  match d with
  | 0 => none
  | d + 1 =>
    (f_X1_isBetween d p1 0 2 w).bind fun r1 =>
    if r1.2 = 0 then
      b_X1_addCombinedFilter_29 d p1 p2 p3 r1.1
    else
      (f_X1_isFilter d p2 r1.1).bind fun r2 =>
      if r2.2 = 0 then
        b_X1_addCombinedFilter_29 d p1 p2 p3 r2.1
      else
        (f_X1_isFilter d p3 r2.1).bind fun r3 =>
        if r3.2 = 0 then
          b_X1_addCombinedFilter_29 d p1 p2 p3 r3.1
        else
          b_X1_addCombinedFilter_30 d p1 p2 p3 1 r3.1
theorem sb_X1_addCombinedFilter_30 {G : Gx} (hG : GW G) {M : Mx} (hl : (mL M).stackTraces = false) {w0 : Wd} {d : Nat} (K : Cx (G, true, M, 6, w0) cX1_addCombinedFilter "IntervalTree" (d + 1)) (hr : (mH M).sig.returnType = some .int) (hnm : (mH M).name = yX1_addCombinedFilter.name) (hxt : ∀ x ∈ (mC M).exceptionTable.toList, False) (hnd : (mS M).methodNamed? yX1_addCombinedFilter = some (mM M)) : ∀ (x1 : Int32) (x2 : Int32) (x3 : Int32) (s0 : Int32) (w : Wd) (fx1 : Bool) (fx2 : Bool) (fx3 : Bool), Jf (G, true, M, 6, w0) (rrX G pI) (b_X1_addCombinedFilter_30 d x1 x2 x3 s0 w) w 30 [some (aR 1 (some 8)), some (aB fx1 x1), some (aB fx2 x2), some (aB fx3 x3), none, none] [aB true s0] := by
  intro x1 x2 x3 s0 w fx1 fx2 fx3
  refine j_callSX _ K hxt (sim_X1_check hG hl d s0 w) dX1_addCombinedFilter_30 q447 q448 q93 q449 pm_X1_check.2 rfl rfl rfl rfl (fun wr2 r2 _ => ?_)
  refine j_aload_n K dX1_addCombinedFilter_33 rfl ?_
  refine j_callVX _ K hxt (sim_X1_checkFilterSpace hG hl d wr2) dX1_addCombinedFilter_34 rfl rfl q921 q923 qs31 q93 q924 pm_X1_checkFilterSpace rfl rfl rfl rfl rfl (fun wr3 r3 _ => ?_)
  refine j_aload_n K dX1_addCombinedFilter_37 rfl ?_
  refine j_getA (k := 1) 1 K dX1_addCombinedFilter_38 rfl rfl rfl q180 rfl rfl (by decide) rfl rfl rfl ?_
  refine j_iload_n K dX1_addCombinedFilter_41 rfl ?_
  refine j_ib (fun hi4 => ?_)
  refine j_aal K dX1_addCombinedFilter_42 rfl (fun _ => rfl) (by decide) rfl rfl (fxLen 1 rfl rfl) hi4 ?_
  refine j_astore K dX1_addCombinedFilter_43 rfl rfl ?_
  refine j_aload_n K dX1_addCombinedFilter_45 rfl ?_
  refine j_getA (k := 1) 1 K dX1_addCombinedFilter_46 rfl rfl rfl q180 rfl rfl (by decide) rfl rfl rfl ?_
  refine j_iload_n K dX1_addCombinedFilter_49 rfl ?_
  refine j_ib (fun hi5 => ?_)
  refine j_aal K dX1_addCombinedFilter_50 rfl (fun _ => rfl) (by decide) rfl rfl (fxLen 1 rfl rfl) hi5 ?_
  refine j_astore K dX1_addCombinedFilter_51 rfl rfl ?_
  refine j_iload_n K dX1_addCombinedFilter_53 rfl ?_
  refine j_ite (c := 0) (fun hs6 => ?_) (fun hs6 => ?_)
  · refine j_look (off := 26) 80 K dX1_addCombinedFilter_54 (by decide +kernel) (by rw [hs6]; rfl) (by decide) ?_
    refine j_aload_n K dX1_addCombinedFilter_80 rfl ?_
    refine j_iconst (x := 2) K dX1_addCombinedFilter_81 rfl ?_
    refine j_anewB (kd := 15) (N := 2) K dX1_addCombinedFilter_82 rfl rfl q126 q127 (by decide +kernel) (by decide +kernel) rfl (fun _ => show (50 : Nat) ≠ 99 from by decide) (fun w7 => ?_)
    refine j_dup K dX1_addCombinedFilter_85 rfl ?_
    refine j_iconstZ K dX1_addCombinedFilter_86 rfl (Or.inl rfl) ?_
    refine j_aload K dX1_addCombinedFilter_87 rfl ?_
    refine j_ib (fun hi8 => ?_)
    refine j_aasI K dX1_addCombinedFilter_89 (by decide) (by decide) rfl (fun _ => rfl) rfl rfl gLen hi8 ?_
    refine j_dup K dX1_addCombinedFilter_90 rfl ?_
    refine j_iconstZ K dX1_addCombinedFilter_91 rfl (Or.inr rfl) ?_
    refine j_aload K dX1_addCombinedFilter_92 rfl ?_
    refine j_ib (fun hi9 => ?_)
    refine j_aasI K dX1_addCombinedFilter_94 (by decide) (by decide) rfl (fun _ => rfl) rfl rfl gLen hi9 ?_
    refine j_callS _ K (sim_X1_all hG hl d (some (gN wr3)) (sR (sR w7 (gN wr3) (Int32.toNatClampNeg 0) (gR wr3 10 x2.toNatClampNeg)) (gN wr3) (Int32.toNatClampNeg 1) (gR wr3 10 x3.toNatClampNeg))) dX1_addCombinedFilter_95 q957 q958 q93 q959 pm_X1_all.2 rfl rfl rfl rfl (fun r10 _ => ?_)
    refine j_callV _ K (sim_X1_addFilter hG hl d r10.2 r10.1) dX1_addCombinedFilter_98 rfl rfl q932 q934 qs32 q93 q935 pm_X1_addFilter rfl rfl rfl rfl rfl (fun r11 _ => ?_)
    exact j_iretX K hr dX1_addCombinedFilter_101
  refine j_ite (c := 1) (fun hs12 => ?_) (fun hs12 => ?_)
  · refine j_look (off := 48) 102 K dX1_addCombinedFilter_54 (by decide +kernel) (by rw [hs12]; rfl) (by decide) ?_
    refine j_aload_n K dX1_addCombinedFilter_102 rfl ?_
    refine j_iconst (x := 2) K dX1_addCombinedFilter_103 rfl ?_
    refine j_anewB (kd := 15) (N := 2) K dX1_addCombinedFilter_104 rfl rfl q126 q127 (by decide +kernel) (by decide +kernel) rfl (fun _ => show (50 : Nat) ≠ 99 from by decide) (fun w13 => ?_)
    refine j_dup K dX1_addCombinedFilter_107 rfl ?_
    refine j_iconstZ K dX1_addCombinedFilter_108 rfl (Or.inl rfl) ?_
    refine j_aload K dX1_addCombinedFilter_109 rfl ?_
    refine j_ib (fun hi14 => ?_)
    refine j_aasI K dX1_addCombinedFilter_111 (by decide) (by decide) rfl (fun _ => rfl) rfl rfl gLen hi14 ?_
    refine j_dup K dX1_addCombinedFilter_112 rfl ?_
    refine j_iconstZ K dX1_addCombinedFilter_113 rfl (Or.inr rfl) ?_
    refine j_aload K dX1_addCombinedFilter_114 rfl ?_
    refine j_ib (fun hi15 => ?_)
    refine j_aasI K dX1_addCombinedFilter_116 (by decide) (by decide) rfl (fun _ => rfl) rfl rfl gLen hi15 ?_
    refine j_callS _ K (sim_X1_any hG hl d (some (gN wr3)) (sR (sR w13 (gN wr3) (Int32.toNatClampNeg 0) (gR wr3 10 x2.toNatClampNeg)) (gN wr3) (Int32.toNatClampNeg 1) (gR wr3 10 x3.toNatClampNeg))) dX1_addCombinedFilter_117 q966 q967 q93 q968 pm_X1_any.2 rfl rfl rfl rfl (fun r16 _ => ?_)
    refine j_callV _ K (sim_X1_addFilter hG hl d r16.2 r16.1) dX1_addCombinedFilter_120 rfl rfl q932 q934 qs32 q93 q935 pm_X1_addFilter rfl rfl rfl rfl rfl (fun r17 _ => ?_)
    exact j_iretX K hr dX1_addCombinedFilter_123
  refine j_look (off := 70) 124 K dX1_addCombinedFilter_54 (by decide +kernel) (by have hs6 : _ ≠ (0 : Int) := ne_toInt hs6; have hs12 : _ ≠ (1 : Int) := ne_toInt hs12; simp [Op.lookupswitch.offset, hs6, hs12, Ne.symm hs6, Ne.symm hs12]) (by decide) ?_
  refine j_aload_n K dX1_addCombinedFilter_124 rfl ?_
  refine j_iconst (x := 2) K dX1_addCombinedFilter_125 rfl ?_
  refine j_anewB (kd := 15) (N := 2) K dX1_addCombinedFilter_126 rfl rfl q126 q127 (by decide +kernel) (by decide +kernel) rfl (fun _ => show (50 : Nat) ≠ 99 from by decide) (fun w18 => ?_)
  refine j_dup K dX1_addCombinedFilter_129 rfl ?_
  refine j_iconstZ K dX1_addCombinedFilter_130 rfl (Or.inl rfl) ?_
  refine j_aload K dX1_addCombinedFilter_131 rfl ?_
  refine j_ib (fun hi19 => ?_)
  refine j_aasI K dX1_addCombinedFilter_133 (by decide) (by decide) rfl (fun _ => rfl) rfl rfl gLen hi19 ?_
  refine j_dup K dX1_addCombinedFilter_134 rfl ?_
  refine j_iconstZ K dX1_addCombinedFilter_135 rfl (Or.inr rfl) ?_
  refine j_aload K dX1_addCombinedFilter_136 rfl ?_
  refine j_callS _ K (sim_X1_not hG hl d (gR wr3 10 x3.toNatClampNeg) (sR w18 (gN wr3) (Int32.toNatClampNeg 0) (gR wr3 10 x2.toNatClampNeg))) dX1_addCombinedFilter_138 q971 q972 q93 q973 pm_X1_not.2 rfl rfl rfl rfl (fun r20 _ => ?_)
  refine j_ib (fun hi21 => ?_)
  refine j_aasI K dX1_addCombinedFilter_141 (by decide) (by decide) rfl (fun _ => rfl) rfl rfl gLen hi21 ?_
  refine j_callS _ K (sim_X1_all hG hl d (some (gN wr3)) (sR r20.1 (gN wr3) (Int32.toNatClampNeg 1) r20.2)) dX1_addCombinedFilter_142 q957 q958 q93 q959 pm_X1_all.2 rfl rfl rfl rfl (fun r22 _ => ?_)
  refine j_callV _ K (sim_X1_addFilter hG hl d r22.2 r22.1) dX1_addCombinedFilter_145 rfl rfl q932 q934 qs32 q93 q935 pm_X1_addFilter rfl rfl rfl rfl rfl (fun r23 _ => ?_)
  exact j_iretX K hr dX1_addCombinedFilter_148
theorem sb_X1_addCombinedFilter_29 {G : Gx} (hG : GW G) {M : Mx} (hl : (mL M).stackTraces = false) {w0 : Wd} {d : Nat} (K : Cx (G, true, M, 6, w0) cX1_addCombinedFilter "IntervalTree" (d + 1)) (hr : (mH M).sig.returnType = some .int) (hnm : (mH M).name = yX1_addCombinedFilter.name) (hxt : ∀ x ∈ (mC M).exceptionTable.toList, False) (hnd : (mS M).methodNamed? yX1_addCombinedFilter = some (mM M)) : ∀ (x1 : Int32) (x2 : Int32) (x3 : Int32) (w : Wd) (fx1 : Bool) (fx2 : Bool) (fx3 : Bool), Jf (G, true, M, 6, w0) (rrX G pI) (b_X1_addCombinedFilter_29 d x1 x2 x3 w) w 29 [some (aR 1 (some 8)), some (aB fx1 x1), some (aB fx2 x2), some (aB fx3 x3), none, none] [] := by
  intro x1 x2 x3 w fx1 fx2 fx3
  refine j_iconstZ K dX1_addCombinedFilter_29 rfl (Or.inl rfl) ?_
  exact j_wk (sb_X1_addCombinedFilter_30 hG hl K hr hnm hxt hnd _ _ _ _ _ _ _ _) ⟨rfl, rfl, rfl, rfl, trivial⟩
theorem sim_X1_addCombinedFilter {G : Gx} (hG : GW G) {l : Launch} (hl : l.stackTraces = false) (d : Nat) (p1 : Int32) (p2 : Int32) (p3 : Int32) (w : Wd) (fp1 : Bool) (fp2 : Bool) (fp3 : Bool) : Mt G true l yX1_addCombinedFilter (ws_ yX1_addCombinedFilter cX1_addCombinedFilter 6 (some .int)) d (rrX G pI) [aR 1 (some 8), aB fp1 p1, aB fp2 p2, aB fp3 p3] w (f_X1_addCombinedFilter d p1 p2 p3 w) := by
  refine Mt.of (own := "IntervalTree") hG hl (by decide +kernel) rfl rfl ?_
  intro M hM hr hnm hxt hnd K
  subst hM
  cases d with
  | zero => exact j_none
  | succ d =>
    refine j_iload_n K dX1_addCombinedFilter_0 rfl ?_
    refine j_iconstZ K dX1_addCombinedFilter_1 rfl (Or.inl rfl) ?_
    refine j_iconst (x := 2) K dX1_addCombinedFilter_2 rfl ?_
    refine j_callS _ K (sim_X1_isBetween hG hl d p1 0 2 w fp1 true false) dX1_addCombinedFilter_3 q444 q445 q93 q446 pm_X1_isBetween.2 rfl rfl rfl rfl (fun r1 _ => ?_)
    refine j_if_eq 29 K dX1_addCombinedFilter_6 (by decide) ?_ ?_
    · exact j_wk (sb_X1_addCombinedFilter_29 hG hl K hr hnm hxt hnd _ _ _ _ _ _ _) ⟨rfl, rfl, rfl, rfl, trivial⟩
    · refine j_aload_n K dX1_addCombinedFilter_9 rfl ?_
      refine j_iload_n K dX1_addCombinedFilter_10 rfl ?_
      refine j_callV _ K (sim_X1_isFilter hG hl d p2 r1.1 fp2) dX1_addCombinedFilter_11 rfl rfl q953 q955 qs34 q93 q956 pm_X1_isFilter rfl rfl rfl rfl rfl (fun r2 _ => ?_)
      refine j_if_eq 29 K dX1_addCombinedFilter_14 (by decide) ?_ ?_
      · exact j_wk (sb_X1_addCombinedFilter_29 hG hl K hr hnm hxt hnd _ _ _ _ _ _ _) ⟨rfl, rfl, rfl, rfl, trivial⟩
      · refine j_aload_n K dX1_addCombinedFilter_17 rfl ?_
        refine j_iload_n K dX1_addCombinedFilter_18 rfl ?_
        refine j_callV _ K (sim_X1_isFilter hG hl d p3 r2.1 fp3) dX1_addCombinedFilter_19 rfl rfl q953 q955 qs34 q93 q956 pm_X1_isFilter rfl rfl rfl rfl rfl (fun r3 _ => ?_)
        refine j_if_eq 29 K dX1_addCombinedFilter_22 (by decide) ?_ ?_
        · exact j_wk (sb_X1_addCombinedFilter_29 hG hl K hr hnm hxt hnd _ _ _ _ _ _ _) ⟨rfl, rfl, rfl, rfl, trivial⟩
        · refine j_iconstZ K dX1_addCombinedFilter_25 rfl (Or.inr rfl) ?_
          refine j_goto 30 K dX1_addCombinedFilter_26 (by decide) ?_
          exact j_wk (sb_X1_addCombinedFilter_30 hG hl K hr hnm hxt hnd _ _ _ _ _ _ _ _) ⟨rfl, rfl, rfl, rfl, trivial⟩

theorem pm_X5_lambda_comparison_0 : yX5_lambda_comparison_0.cls = RX5 ∧ yX5_lambda_comparison_0.cls ≠ "java/lang/invoke/MethodHandle" ∧ yX5_lambda_comparison_0.cls ≠ "java/lang/invoke/VarHandle" ∧ (parseMethodDescriptor yX5_lambda_comparison_0.desc).map (fun d => d.parameters.length) = some 3 := by decide +kernel
def f_X5_lambda_comparison_0 (d : Nat) (p1 : Option Nat) (p2 : Int32) (p3 : Option Nat) (w : Wd) : Option (Wd × Int32) :=
  match d with
  | 0 => none
  | d + 1 =>
    (p1).bind fun a1 =>
    (f_OFP d a1 p3 w).bind fun r2 =>
    if r2.2 = p2 then
      some (r2.1, 1)
    else
      some (r2.1, 0)
theorem sim_X5_lambda_comparison_0 {G : Gx} (hG : GW G) {l : Launch} (hl : l.stackTraces = false) (d : Nat) (p1 : Option Nat) (p2 : Int32) (p3 : Option Nat) (w : Wd) (fp2 : Bool) : Mt G true l yX5_lambda_comparison_0 (ws_ yX5_lambda_comparison_0 cX5_lambda_comparison_0 3 (some .boolean)) d (rrV G pZ) [aR 51 p1, aB fp2 p2, aR 4 p3] w (f_X5_lambda_comparison_0 d p1 p2 p3 w) := by
  refine Mt.of (own := "IntervalTree$Parser") hG hl (by decide +kernel) rfl rfl ?_
  intro M hM hr hnm hxt hnd K
  subst hM
  cases d with
  | zero => exact j_none
  | succ d =>
    refine j_aload_n K dX5_lambda_comparison_0_0 rfl ?_
    refine j_aload_n K dX5_lambda_comparison_0_1 rfl ?_
    refine j_nn (fun a1 ha1 => ?_)
    refine j_callM (t := 51) K (sim_OFP hG hl d a1 p3 w) dX5_lambda_comparison_0_2 (by decide) (by decide) q1165 ha1 rfl (fun r2 _ => ?_)
    refine j_iload_n K dX5_lambda_comparison_0_7 rfl ?_
    refine j_icmp_ne 15 K dX5_lambda_comparison_0_8 (by decide) ?_ ?_
    · refine j_iconstZ K dX5_lambda_comparison_0_15 rfl (Or.inl rfl) ?_
      exact j_zret K hr dX5_lambda_comparison_0_16
    · refine j_iconstZ K dX5_lambda_comparison_0_11 rfl (Or.inr rfl) ?_
      refine j_goto 16 K dX5_lambda_comparison_0_12 (by decide) ?_
      exact j_zret K hr dX5_lambda_comparison_0_16

theorem pm_X5_lambda_below_1 : yX5_lambda_below_1.cls = RX5 ∧ yX5_lambda_below_1.cls ≠ "java/lang/invoke/MethodHandle" ∧ yX5_lambda_below_1.cls ≠ "java/lang/invoke/VarHandle" ∧ (parseMethodDescriptor yX5_lambda_below_1.desc).map (fun d => d.parameters.length) = some 3 := by decide +kernel
def f_X5_lambda_below_1 (d : Nat) (p1 : Option Nat) (p2 : Int32) (p3 : Option Nat) (w : Wd) : Option (Wd × Int32) :=
  match d with
  | 0 => none
  | d + 1 =>
    (p1).bind fun a1 =>
    (f_OFP d a1 p3 w).bind fun r2 =>
    if p2 ≤ r2.2 then
      some (r2.1, 0)
    else
      some (r2.1, 1)
theorem sim_X5_lambda_below_1 {G : Gx} (hG : GW G) {l : Launch} (hl : l.stackTraces = false) (d : Nat) (p1 : Option Nat) (p2 : Int32) (p3 : Option Nat) (w : Wd) (fp2 : Bool) : Mt G true l yX5_lambda_below_1 (ws_ yX5_lambda_below_1 cX5_lambda_below_1 3 (some .boolean)) d (rrV G pZ) [aR 51 p1, aB fp2 p2, aR 4 p3] w (f_X5_lambda_below_1 d p1 p2 p3 w) := by
  refine Mt.of (own := "IntervalTree$Parser") hG hl (by decide +kernel) rfl rfl ?_
  intro M hM hr hnm hxt hnd K
  subst hM
  cases d with
  | zero => exact j_none
  | succ d =>
    refine j_aload_n K dX5_lambda_below_1_0 rfl ?_
    refine j_aload_n K dX5_lambda_below_1_1 rfl ?_
    refine j_nn (fun a1 ha1 => ?_)
    refine j_callM (t := 51) K (sim_OFP hG hl d a1 p3 w) dX5_lambda_below_1_2 (by decide) (by decide) q1165 ha1 rfl (fun r2 _ => ?_)
    refine j_iload_n K dX5_lambda_below_1_7 rfl ?_
    refine j_icmp_ge 15 K dX5_lambda_below_1_8 (by decide) ?_ ?_
    · refine j_iconstZ K dX5_lambda_below_1_15 rfl (Or.inl rfl) ?_
      exact j_zret K hr dX5_lambda_below_1_16
    · refine j_iconstZ K dX5_lambda_below_1_11 rfl (Or.inr rfl) ?_
      refine j_goto 16 K dX5_lambda_below_1_12 (by decide) ?_
      exact j_zret K hr dX5_lambda_below_1_16

theorem pm_X5_lambda_above_2 : yX5_lambda_above_2.cls = RX5 ∧ yX5_lambda_above_2.cls ≠ "java/lang/invoke/MethodHandle" ∧ yX5_lambda_above_2.cls ≠ "java/lang/invoke/VarHandle" ∧ (parseMethodDescriptor yX5_lambda_above_2.desc).map (fun d => d.parameters.length) = some 3 := by decide +kernel
def f_X5_lambda_above_2 (d : Nat) (p1 : Option Nat) (p2 : Int32) (p3 : Option Nat) (w : Wd) : Option (Wd × Int32) :=
  match d with
  | 0 => none
  | d + 1 =>
    (p1).bind fun a1 =>
    (f_OFP d a1 p3 w).bind fun r2 =>
    if r2.2 ≤ p2 then
      some (r2.1, 0)
    else
      some (r2.1, 1)
theorem sim_X5_lambda_above_2 {G : Gx} (hG : GW G) {l : Launch} (hl : l.stackTraces = false) (d : Nat) (p1 : Option Nat) (p2 : Int32) (p3 : Option Nat) (w : Wd) (fp2 : Bool) : Mt G true l yX5_lambda_above_2 (ws_ yX5_lambda_above_2 cX5_lambda_above_2 3 (some .boolean)) d (rrV G pZ) [aR 51 p1, aB fp2 p2, aR 4 p3] w (f_X5_lambda_above_2 d p1 p2 p3 w) := by
  refine Mt.of (own := "IntervalTree$Parser") hG hl (by decide +kernel) rfl rfl ?_
  intro M hM hr hnm hxt hnd K
  subst hM
  cases d with
  | zero => exact j_none
  | succ d =>
    refine j_aload_n K dX5_lambda_above_2_0 rfl ?_
    refine j_aload_n K dX5_lambda_above_2_1 rfl ?_
    refine j_nn (fun a1 ha1 => ?_)
    refine j_callM (t := 51) K (sim_OFP hG hl d a1 p3 w) dX5_lambda_above_2_2 (by decide) (by decide) q1165 ha1 rfl (fun r2 _ => ?_)
    refine j_iload_n K dX5_lambda_above_2_7 rfl ?_
    refine j_icmp_le 15 K dX5_lambda_above_2_8 (by decide) ?_ ?_
    · refine j_iconstZ K dX5_lambda_above_2_15 rfl (Or.inl rfl) ?_
      exact j_zret K hr dX5_lambda_above_2_16
    · refine j_iconstZ K dX5_lambda_above_2_11 rfl (Or.inr rfl) ?_
      refine j_goto 16 K dX5_lambda_above_2_12 (by decide) ?_
      exact j_zret K hr dX5_lambda_above_2_16

theorem pm_X1_lambda_not_9 : yX1_lambda_not_9.cls = RX1 ∧ yX1_lambda_not_9.cls ≠ "java/lang/invoke/MethodHandle" ∧ yX1_lambda_not_9.cls ≠ "java/lang/invoke/VarHandle" ∧ (parseMethodDescriptor yX1_lambda_not_9.desc).map (fun d => d.parameters.length) = some 2 := by decide +kernel
theorem pm_X1_lambda_any_8 : yX1_lambda_any_8.cls = RX1 ∧ yX1_lambda_any_8.cls ≠ "java/lang/invoke/MethodHandle" ∧ yX1_lambda_any_8.cls ≠ "java/lang/invoke/VarHandle" ∧ (parseMethodDescriptor yX1_lambda_any_8.desc).map (fun d => d.parameters.length) = some 2 := by decide +kernel
theorem pm_X1_lambda_all_7 : yX1_lambda_all_7.cls = RX1 ∧ yX1_lambda_all_7.cls ≠ "java/lang/invoke/MethodHandle" ∧ yX1_lambda_all_7.cls ≠ "java/lang/invoke/VarHandle" ∧ (parseMethodDescriptor yX1_lambda_all_7.desc).map (fun d => d.parameters.length) = some 2 := by decide +kernel
def fB_X1_lambda_not_9 (d : Nat) (g_X1_lambda_not_9 : Option Nat → Option Nat → Wd → Option (Wd × Int32)) (g_X1_lambda_any_8 : Option Nat → Option Nat → Wd → Option (Wd × Int32)) (g_X1_lambda_all_7 : Option Nat → Option Nat → Wd → Option (Wd × Int32)) (g_ACC : Nat → Option Nat → Wd → Option (Wd × Int32)) (p1 : Option Nat) (p2 : Option Nat) (w : Wd) : Option (Wd × Int32) :=
  (p1).bind fun a1 =>
  (g_ACC a1 p2 w).bind fun r2 =>
  if r2.2 = 0 then
    some (r2.1, 1)
  else
    some (r2.1, 0)
theorem simB_X1_lambda_not_9 {G : Gx} (hG : GW G) {l : Launch} (hl : l.stackTraces = false) (d : Nat) {g_X1_lambda_not_9 : Option Nat → Option Nat → Wd → Option (Wd × Int32)} (hg_X1_lambda_not_9 : ∀ (p1 : Option Nat) (p2 : Option Nat) (w : Wd), Mt G true l yX1_lambda_not_9 (ws_ yX1_lambda_not_9 cX1_lambda_not_9 2 (some .boolean)) d (rrV G pZ) [aR 50 p1, aR 4 p2] w (g_X1_lambda_not_9 p1 p2 w)) {g_X1_lambda_any_8 : Option Nat → Option Nat → Wd → Option (Wd × Int32)} (hg_X1_lambda_any_8 : ∀ (p1 : Option Nat) (p2 : Option Nat) (w : Wd), Mt G true l yX1_lambda_any_8 (ws_ yX1_lambda_any_8 cX1_lambda_any_8 6 (some .boolean)) d (rrV G pZ) [aR 15 p1, aR 4 p2] w (g_X1_lambda_any_8 p1 p2 w)) {g_X1_lambda_all_7 : Option Nat → Option Nat → Wd → Option (Wd × Int32)} (hg_X1_lambda_all_7 : ∀ (p1 : Option Nat) (p2 : Option Nat) (w : Wd), Mt G true l yX1_lambda_all_7 (ws_ yX1_lambda_all_7 cX1_lambda_all_7 6 (some .boolean)) d (rrV G pZ) [aR 15 p1, aR 4 p2] w (g_X1_lambda_all_7 p1 p2 w)) {g_ACC : Nat → Option Nat → Wd → Option (Wd × Int32)} (hg_ACC : ∀ (b : Nat) (p : Option Nat) (w : Wd), Mi G true l d pZ b [aR 4 p] w (g_ACC b p w)) (p1 : Option Nat) (p2 : Option Nat) (w : Wd) : Mt G true l yX1_lambda_not_9 (ws_ yX1_lambda_not_9 cX1_lambda_not_9 2 (some .boolean)) (d + 1) (rrV G pZ) [aR 50 p1, aR 4 p2] w (fB_X1_lambda_not_9 d g_X1_lambda_not_9 g_X1_lambda_any_8 g_X1_lambda_all_7 g_ACC p1 p2 w) := by
  refine Mt.of (own := "IntervalTree") hG hl (by decide +kernel) rfl rfl ?_
  intro M hM hr hnm hxt hnd K
  subst hM
  refine j_aload_n K dX1_lambda_not_9_0 rfl ?_
  refine j_aload_n K dX1_lambda_not_9_1 rfl ?_
  refine j_nn (fun a1 ha1 => ?_)
  refine j_callM (t := 50) K (hg_ACC a1 p2 w) dX1_lambda_not_9_2 (by decide) (by decide) q963 ha1 rfl (fun r2 _ => ?_)
  refine j_if_ne 14 K dX1_lambda_not_9_7 (by decide) ?_ ?_
  · refine j_iconstZ K dX1_lambda_not_9_14 rfl (Or.inl rfl) ?_
    exact j_zret K hr dX1_lambda_not_9_15
  · refine j_iconstZ K dX1_lambda_not_9_10 rfl (Or.inr rfl) ?_
    refine j_goto 15 K dX1_lambda_not_9_11 (by decide) ?_
    exact j_zret K hr dX1_lambda_not_9_15
def b_X1_lambda_any_8_8 (d : Nat) (g_X1_lambda_not_9 : Option Nat → Option Nat → Wd → Option (Wd × Int32)) (g_X1_lambda_any_8 : Option Nat → Option Nat → Wd → Option (Wd × Int32)) (g_X1_lambda_all_7 : Option Nat → Option Nat → Wd → Option (Wd × Int32)) (g_ACC : Nat → Option Nat → Wd → Option (Wd × Int32)) : Nat → Option Nat → Option Nat → Int32 → Int32 → Wd → Option (Wd × Int32)
  | 0, _, _, _, _, _ => none
  | n + 1, x1, x2, x3, x4, w =>
    if x3 ≤ x4 then
      some (w, 0)
    else
      (x2).bind fun a2 =>
      if ib x4 (gL w a2) = true then
        (gR w a2 x4.toNatClampNeg).bind fun a4 =>
        (g_ACC a4 x1 w).bind fun r5 =>
        if r5.2 = 0 then
          b_X1_lambda_any_8_8 d g_X1_lambda_not_9 g_X1_lambda_any_8 g_X1_lambda_all_7 g_ACC n x1 x2 x3 (x4 + 1) r5.1
        else
          some (r5.1, 1)
      else none
def fB_X1_lambda_any_8 (d : Nat) (g_X1_lambda_not_9 : Option Nat → Option Nat → Wd → Option (Wd × Int32)) (g_X1_lambda_any_8 : Option Nat → Option Nat → Wd → Option (Wd × Int32)) (g_X1_lambda_all_7 : Option Nat → Option Nat → Wd → Option (Wd × Int32)) (g_ACC : Nat → Option Nat → Wd → Option (Wd × Int32)) (p1 : Option Nat) (p2 : Option Nat) (w : Wd) : Option (Wd × Int32) :=
  (p1).bind fun a1 =>
  b_X1_lambda_any_8_8 d g_X1_lambda_not_9 g_X1_lambda_any_8 g_X1_lambda_all_7 g_ACC FU p2 p1 (Int32.ofNat (gL w a1)) 0 w
theorem sb_X1_lambda_any_8_8 {G : Gx} (hG : GW G) {M : Mx} (hl : (mL M).stackTraces = false) {w0 : Wd} {d : Nat} (K : Cx (G, true, M, 6, w0) cX1_lambda_any_8 "IntervalTree" (d + 1)) (hr : (mH M).sig.returnType = some .boolean) (hnm : (mH M).name = yX1_lambda_any_8.name) (hxt : ∀ x ∈ (mC M).exceptionTable.toList, False) (hnd : (mS M).methodNamed? yX1_lambda_any_8 = some (mM M)) {g_X1_lambda_not_9 : Option Nat → Option Nat → Wd → Option (Wd × Int32)} (hg_X1_lambda_not_9 : ∀ (p1 : Option Nat) (p2 : Option Nat) (w : Wd), Mt G true (mL M) yX1_lambda_not_9 (ws_ yX1_lambda_not_9 cX1_lambda_not_9 2 (some .boolean)) d (rrV G pZ) [aR 50 p1, aR 4 p2] w (g_X1_lambda_not_9 p1 p2 w)) {g_X1_lambda_any_8 : Option Nat → Option Nat → Wd → Option (Wd × Int32)} (hg_X1_lambda_any_8 : ∀ (p1 : Option Nat) (p2 : Option Nat) (w : Wd), Mt G true (mL M) yX1_lambda_any_8 (ws_ yX1_lambda_any_8 cX1_lambda_any_8 6 (some .boolean)) d (rrV G pZ) [aR 15 p1, aR 4 p2] w (g_X1_lambda_any_8 p1 p2 w)) {g_X1_lambda_all_7 : Option Nat → Option Nat → Wd → Option (Wd × Int32)} (hg_X1_lambda_all_7 : ∀ (p1 : Option Nat) (p2 : Option Nat) (w : Wd), Mt G true (mL M) yX1_lambda_all_7 (ws_ yX1_lambda_all_7 cX1_lambda_all_7 6 (some .boolean)) d (rrV G pZ) [aR 15 p1, aR 4 p2] w (g_X1_lambda_all_7 p1 p2 w)) {g_ACC : Nat → Option Nat → Wd → Option (Wd × Int32)} (hg_ACC : ∀ (b : Nat) (p : Option Nat) (w : Wd), Mi G true (mL M) d pZ b [aR 4 p] w (g_ACC b p w)) : ∀ (n : Nat), ∀ (x1 : Option Nat) (x2 : Option Nat) (x3 : Int32) (x4 : Int32) (w : Wd) (fx3 : Bool) (fx4 : Bool), Jf (G, true, M, 6, w0) (rrV G pZ) (b_X1_lambda_any_8_8 d g_X1_lambda_not_9 g_X1_lambda_any_8 g_X1_lambda_all_7 g_ACC n x1 x2 x3 x4 w) w 8 [none, some (aR 4 x1), some (aR 15 x2), some (aB fx3 x3), some (aB fx4 x4), none] [] := by
  intro n
  induction n with
  | zero => intros; exact j_none
  | succ n ih =>
    intro x1 x2 x3 x4 w fx3 fx4
    refine j_iload K dX1_lambda_any_8_8 rfl ?_
    refine j_iload_n K dX1_lambda_any_8_10 rfl ?_
    refine j_icmp_ge 39 K dX1_lambda_any_8_11 (by decide) ?_ ?_
    · refine j_iconstZ K dX1_lambda_any_8_39 rfl (Or.inl rfl) ?_
      exact j_zret K hr dX1_lambda_any_8_40
    · refine j_aload_n K dX1_lambda_any_8_14 rfl ?_
      refine j_iload K dX1_lambda_any_8_15 rfl ?_
      refine j_nn (fun a2 ha2 => ?_)
      refine j_ib (fun hi3 => ?_)
      refine j_aal K dX1_lambda_any_8_17 rfl (fun _ => rfl) (by decide) rfl ha2 gLen hi3 ?_
      refine j_astore K dX1_lambda_any_8_18 rfl rfl ?_
      refine j_aload K dX1_lambda_any_8_20 rfl ?_
      refine j_aload_n K dX1_lambda_any_8_22 rfl ?_
      refine j_nn (fun a4 ha4 => ?_)
      refine j_callM (t := 50) K (hg_ACC a4 x1 w) dX1_lambda_any_8_23 (by decide) (by decide) q963 ha4 rfl (fun r5 _ => ?_)
      refine j_if_eq 33 K dX1_lambda_any_8_28 (by decide) ?_ ?_
      · refine j_iinc (y := 1) K dX1_lambda_any_8_33 rfl rfl rfl rfl ?_
        refine j_goto 8 K dX1_lambda_any_8_36 (by decide) ?_
        exact j_wk (ih _ _ _ _ _ _ _) ⟨rfl, rfl, rfl, rfl, trivial⟩
      · refine j_iconstZ K dX1_lambda_any_8_31 rfl (Or.inr rfl) ?_
        exact j_zret K hr dX1_lambda_any_8_32
theorem simB_X1_lambda_any_8 {G : Gx} (hG : GW G) {l : Launch} (hl : l.stackTraces = false) (d : Nat) {g_X1_lambda_not_9 : Option Nat → Option Nat → Wd → Option (Wd × Int32)} (hg_X1_lambda_not_9 : ∀ (p1 : Option Nat) (p2 : Option Nat) (w : Wd), Mt G true l yX1_lambda_not_9 (ws_ yX1_lambda_not_9 cX1_lambda_not_9 2 (some .boolean)) d (rrV G pZ) [aR 50 p1, aR 4 p2] w (g_X1_lambda_not_9 p1 p2 w)) {g_X1_lambda_any_8 : Option Nat → Option Nat → Wd → Option (Wd × Int32)} (hg_X1_lambda_any_8 : ∀ (p1 : Option Nat) (p2 : Option Nat) (w : Wd), Mt G true l yX1_lambda_any_8 (ws_ yX1_lambda_any_8 cX1_lambda_any_8 6 (some .boolean)) d (rrV G pZ) [aR 15 p1, aR 4 p2] w (g_X1_lambda_any_8 p1 p2 w)) {g_X1_lambda_all_7 : Option Nat → Option Nat → Wd → Option (Wd × Int32)} (hg_X1_lambda_all_7 : ∀ (p1 : Option Nat) (p2 : Option Nat) (w : Wd), Mt G true l yX1_lambda_all_7 (ws_ yX1_lambda_all_7 cX1_lambda_all_7 6 (some .boolean)) d (rrV G pZ) [aR 15 p1, aR 4 p2] w (g_X1_lambda_all_7 p1 p2 w)) {g_ACC : Nat → Option Nat → Wd → Option (Wd × Int32)} (hg_ACC : ∀ (b : Nat) (p : Option Nat) (w : Wd), Mi G true l d pZ b [aR 4 p] w (g_ACC b p w)) (p1 : Option Nat) (p2 : Option Nat) (w : Wd) : Mt G true l yX1_lambda_any_8 (ws_ yX1_lambda_any_8 cX1_lambda_any_8 6 (some .boolean)) (d + 1) (rrV G pZ) [aR 15 p1, aR 4 p2] w (fB_X1_lambda_any_8 d g_X1_lambda_not_9 g_X1_lambda_any_8 g_X1_lambda_all_7 g_ACC p1 p2 w) := by
  refine Mt.of (own := "IntervalTree") hG hl (by decide +kernel) rfl rfl ?_
  intro M hM hr hnm hxt hnd K
  subst hM
  refine j_aload_n K dX1_lambda_any_8_0 rfl ?_
  refine j_astore_n K dX1_lambda_any_8_1 rfl rfl ?_
  refine j_aload_n K dX1_lambda_any_8_2 rfl ?_
  refine j_nn (fun a1 ha1 => ?_)
  refine j_alen K dX1_lambda_any_8_3 rfl rfl ha1 ?_
  refine j_istore_n K dX1_lambda_any_8_4 rfl rfl ?_
  refine j_iconstZ K dX1_lambda_any_8_5 rfl (Or.inl rfl) ?_
  refine j_istore K dX1_lambda_any_8_6 rfl rfl ?_
  exact j_wk (sb_X1_lambda_any_8_8 hG hl K hr hnm hxt hnd hg_X1_lambda_not_9 hg_X1_lambda_any_8 hg_X1_lambda_all_7 hg_ACC FU _ _ _ _ _ _ _) ⟨rfl, rfl, rfl, rfl, trivial⟩
def b_X1_lambda_all_7_8 (d : Nat) (g_X1_lambda_not_9 : Option Nat → Option Nat → Wd → Option (Wd × Int32)) (g_X1_lambda_any_8 : Option Nat → Option Nat → Wd → Option (Wd × Int32)) (g_X1_lambda_all_7 : Option Nat → Option Nat → Wd → Option (Wd × Int32)) (g_ACC : Nat → Option Nat → Wd → Option (Wd × Int32)) : Nat → Option Nat → Option Nat → Int32 → Int32 → Wd → Option (Wd × Int32)
  | 0, _, _, _, _, _ => none
  | n + 1, x1, x2, x3, x4, w =>
    if x3 ≤ x4 then
      some (w, 1)
    else
      (x2).bind fun a2 =>
      if ib x4 (gL w a2) = true then
        (gR w a2 x4.toNatClampNeg).bind fun a4 =>
        (g_ACC a4 x1 w).bind fun r5 =>
        if r5.2 = 0 then
          some (r5.1, 0)
        else
          b_X1_lambda_all_7_8 d g_X1_lambda_not_9 g_X1_lambda_any_8 g_X1_lambda_all_7 g_ACC n x1 x2 x3 (x4 + 1) r5.1
      else none
def fB_X1_lambda_all_7 (d : Nat) (g_X1_lambda_not_9 : Option Nat → Option Nat → Wd → Option (Wd × Int32)) (g_X1_lambda_any_8 : Option Nat → Option Nat → Wd → Option (Wd × Int32)) (g_X1_lambda_all_7 : Option Nat → Option Nat → Wd → Option (Wd × Int32)) (g_ACC : Nat → Option Nat → Wd → Option (Wd × Int32)) (p1 : Option Nat) (p2 : Option Nat) (w : Wd) : Option (Wd × Int32) :=
  (p1).bind fun a1 =>
  b_X1_lambda_all_7_8 d g_X1_lambda_not_9 g_X1_lambda_any_8 g_X1_lambda_all_7 g_ACC FU p2 p1 (Int32.ofNat (gL w a1)) 0 w
theorem sb_X1_lambda_all_7_8 {G : Gx} (hG : GW G) {M : Mx} (hl : (mL M).stackTraces = false) {w0 : Wd} {d : Nat} (K : Cx (G, true, M, 6, w0) cX1_lambda_all_7 "IntervalTree" (d + 1)) (hr : (mH M).sig.returnType = some .boolean) (hnm : (mH M).name = yX1_lambda_all_7.name) (hxt : ∀ x ∈ (mC M).exceptionTable.toList, False) (hnd : (mS M).methodNamed? yX1_lambda_all_7 = some (mM M)) {g_X1_lambda_not_9 : Option Nat → Option Nat → Wd → Option (Wd × Int32)} (hg_X1_lambda_not_9 : ∀ (p1 : Option Nat) (p2 : Option Nat) (w : Wd), Mt G true (mL M) yX1_lambda_not_9 (ws_ yX1_lambda_not_9 cX1_lambda_not_9 2 (some .boolean)) d (rrV G pZ) [aR 50 p1, aR 4 p2] w (g_X1_lambda_not_9 p1 p2 w)) {g_X1_lambda_any_8 : Option Nat → Option Nat → Wd → Option (Wd × Int32)} (hg_X1_lambda_any_8 : ∀ (p1 : Option Nat) (p2 : Option Nat) (w : Wd), Mt G true (mL M) yX1_lambda_any_8 (ws_ yX1_lambda_any_8 cX1_lambda_any_8 6 (some .boolean)) d (rrV G pZ) [aR 15 p1, aR 4 p2] w (g_X1_lambda_any_8 p1 p2 w)) {g_X1_lambda_all_7 : Option Nat → Option Nat → Wd → Option (Wd × Int32)} (hg_X1_lambda_all_7 : ∀ (p1 : Option Nat) (p2 : Option Nat) (w : Wd), Mt G true (mL M) yX1_lambda_all_7 (ws_ yX1_lambda_all_7 cX1_lambda_all_7 6 (some .boolean)) d (rrV G pZ) [aR 15 p1, aR 4 p2] w (g_X1_lambda_all_7 p1 p2 w)) {g_ACC : Nat → Option Nat → Wd → Option (Wd × Int32)} (hg_ACC : ∀ (b : Nat) (p : Option Nat) (w : Wd), Mi G true (mL M) d pZ b [aR 4 p] w (g_ACC b p w)) : ∀ (n : Nat), ∀ (x1 : Option Nat) (x2 : Option Nat) (x3 : Int32) (x4 : Int32) (w : Wd) (fx3 : Bool) (fx4 : Bool), Jf (G, true, M, 6, w0) (rrV G pZ) (b_X1_lambda_all_7_8 d g_X1_lambda_not_9 g_X1_lambda_any_8 g_X1_lambda_all_7 g_ACC n x1 x2 x3 x4 w) w 8 [none, some (aR 4 x1), some (aR 15 x2), some (aB fx3 x3), some (aB fx4 x4), none] [] := by
  intro n
  induction n with
  | zero => intros; exact j_none
  | succ n ih =>
    intro x1 x2 x3 x4 w fx3 fx4
    refine j_iload K dX1_lambda_all_7_8 rfl ?_
    refine j_iload_n K dX1_lambda_all_7_10 rfl ?_
    refine j_icmp_ge 39 K dX1_lambda_all_7_11 (by decide) ?_ ?_
    · refine j_iconstZ K dX1_lambda_all_7_39 rfl (Or.inr rfl) ?_
      exact j_zret K hr dX1_lambda_all_7_40
    · refine j_aload_n K dX1_lambda_all_7_14 rfl ?_
      refine j_iload K dX1_lambda_all_7_15 rfl ?_
      refine j_nn (fun a2 ha2 => ?_)
      refine j_ib (fun hi3 => ?_)
      refine j_aal K dX1_lambda_all_7_17 rfl (fun _ => rfl) (by decide) rfl ha2 gLen hi3 ?_
      refine j_astore K dX1_lambda_all_7_18 rfl rfl ?_
      refine j_aload K dX1_lambda_all_7_20 rfl ?_
      refine j_aload_n K dX1_lambda_all_7_22 rfl ?_
      refine j_nn (fun a4 ha4 => ?_)
      refine j_callM (t := 50) K (hg_ACC a4 x1 w) dX1_lambda_all_7_23 (by decide) (by decide) q963 ha4 rfl (fun r5 _ => ?_)
      refine j_if_ne 33 K dX1_lambda_all_7_28 (by decide) ?_ ?_
      · refine j_iinc (y := 1) K dX1_lambda_all_7_33 rfl rfl rfl rfl ?_
        refine j_goto 8 K dX1_lambda_all_7_36 (by decide) ?_
        exact j_wk (ih _ _ _ _ _ _ _) ⟨rfl, rfl, rfl, rfl, trivial⟩
      · refine j_iconstZ K dX1_lambda_all_7_31 rfl (Or.inl rfl) ?_
        exact j_zret K hr dX1_lambda_all_7_32
theorem simB_X1_lambda_all_7 {G : Gx} (hG : GW G) {l : Launch} (hl : l.stackTraces = false) (d : Nat) {g_X1_lambda_not_9 : Option Nat → Option Nat → Wd → Option (Wd × Int32)} (hg_X1_lambda_not_9 : ∀ (p1 : Option Nat) (p2 : Option Nat) (w : Wd), Mt G true l yX1_lambda_not_9 (ws_ yX1_lambda_not_9 cX1_lambda_not_9 2 (some .boolean)) d (rrV G pZ) [aR 50 p1, aR 4 p2] w (g_X1_lambda_not_9 p1 p2 w)) {g_X1_lambda_any_8 : Option Nat → Option Nat → Wd → Option (Wd × Int32)} (hg_X1_lambda_any_8 : ∀ (p1 : Option Nat) (p2 : Option Nat) (w : Wd), Mt G true l yX1_lambda_any_8 (ws_ yX1_lambda_any_8 cX1_lambda_any_8 6 (some .boolean)) d (rrV G pZ) [aR 15 p1, aR 4 p2] w (g_X1_lambda_any_8 p1 p2 w)) {g_X1_lambda_all_7 : Option Nat → Option Nat → Wd → Option (Wd × Int32)} (hg_X1_lambda_all_7 : ∀ (p1 : Option Nat) (p2 : Option Nat) (w : Wd), Mt G true l yX1_lambda_all_7 (ws_ yX1_lambda_all_7 cX1_lambda_all_7 6 (some .boolean)) d (rrV G pZ) [aR 15 p1, aR 4 p2] w (g_X1_lambda_all_7 p1 p2 w)) {g_ACC : Nat → Option Nat → Wd → Option (Wd × Int32)} (hg_ACC : ∀ (b : Nat) (p : Option Nat) (w : Wd), Mi G true l d pZ b [aR 4 p] w (g_ACC b p w)) (p1 : Option Nat) (p2 : Option Nat) (w : Wd) : Mt G true l yX1_lambda_all_7 (ws_ yX1_lambda_all_7 cX1_lambda_all_7 6 (some .boolean)) (d + 1) (rrV G pZ) [aR 15 p1, aR 4 p2] w (fB_X1_lambda_all_7 d g_X1_lambda_not_9 g_X1_lambda_any_8 g_X1_lambda_all_7 g_ACC p1 p2 w) := by
  refine Mt.of (own := "IntervalTree") hG hl (by decide +kernel) rfl rfl ?_
  intro M hM hr hnm hxt hnd K
  subst hM
  refine j_aload_n K dX1_lambda_all_7_0 rfl ?_
  refine j_astore_n K dX1_lambda_all_7_1 rfl rfl ?_
  refine j_aload_n K dX1_lambda_all_7_2 rfl ?_
  refine j_nn (fun a1 ha1 => ?_)
  refine j_alen K dX1_lambda_all_7_3 rfl rfl ha1 ?_
  refine j_istore_n K dX1_lambda_all_7_4 rfl rfl ?_
  refine j_iconstZ K dX1_lambda_all_7_5 rfl (Or.inl rfl) ?_
  refine j_istore K dX1_lambda_all_7_6 rfl rfl ?_
  exact j_wk (sb_X1_lambda_all_7_8 hG hl K hr hnm hxt hnd hg_X1_lambda_not_9 hg_X1_lambda_any_8 hg_X1_lambda_all_7 hg_ACC FU _ _ _ _ _ _ _) ⟨rfl, rfl, rfl, rfl, trivial⟩
def fB_ACC (d : Nat) (g_X1_lambda_not_9 : Option Nat → Option Nat → Wd → Option (Wd × Int32)) (g_X1_lambda_any_8 : Option Nat → Option Nat → Wd → Option (Wd × Int32)) (g_X1_lambda_all_7 : Option Nat → Option Nat → Wd → Option (Wd × Int32)) (g_ACC : Nat → Option Nat → Wd → Option (Wd × Int32)) (b : Nat) (p : Option Nat) (w : Wd) : Option (Wd × Int32) :=
  if gK w b = 24 then
    if gL w b = 0 then
      f_X1_lambda_new_3 d p w
    else none
  else
    if gK w b = 25 then
      if gL w b = 0 then
        f_X1_isPoint d p w
      else none
    else
      if gK w b = 26 then
        if gL w b = 1 then
          if gR w b 0 = some 8 then f_X1_isCrowded d p w else none
        else none
      else
        if gK w b = 32 then
          if gL w b = 3 then
            f_X1_lambda_addRangeFilter_10 d (gR w b 0) (gI w b 1) (gI w b 2) p w
          else none
        else
          if gK w b = 33 then
            if gL w b = 2 then
              if gR w b 0 = some 8 then f_X1_lambda_addHeavierFilter_11 d (gI w b 1) p w else none
            else none
          else
            if gK w b = 34 then
              if gL w b = 1 then
                g_X1_lambda_all_7 (gR w b 0) p w
              else none
            else
              if gK w b = 35 then
                if gL w b = 1 then
                  g_X1_lambda_any_8 (gR w b 0) p w
                else none
              else
                if gK w b = 36 then
                  if gL w b = 1 then
                    g_X1_lambda_not_9 (gR w b 0) p w
                  else none
                else
                  if gK w b = 37 then
                    if gL w b = 2 then
                      f_X5_lambda_comparison_0 d (gR w b 0) (gI w b 1) p w
                    else none
                  else
                    if gK w b = 38 then
                      if gL w b = 2 then
                        f_X5_lambda_below_1 d (gR w b 0) (gI w b 1) p w
                      else none
                    else
                      if gK w b = 39 then
                        if gL w b = 2 then
                          f_X5_lambda_above_2 d (gR w b 0) (gI w b 1) p w
                        else none
                      else
                        none
theorem simB_ACC {G : Gx} (hG : GW G) {l : Launch} (hl : l.stackTraces = false) (d : Nat) {g_X1_lambda_not_9 : Option Nat → Option Nat → Wd → Option (Wd × Int32)} (hg_X1_lambda_not_9 : ∀ (p1 : Option Nat) (p2 : Option Nat) (w : Wd), Mt G true l yX1_lambda_not_9 (ws_ yX1_lambda_not_9 cX1_lambda_not_9 2 (some .boolean)) d (rrV G pZ) [aR 50 p1, aR 4 p2] w (g_X1_lambda_not_9 p1 p2 w)) {g_X1_lambda_any_8 : Option Nat → Option Nat → Wd → Option (Wd × Int32)} (hg_X1_lambda_any_8 : ∀ (p1 : Option Nat) (p2 : Option Nat) (w : Wd), Mt G true l yX1_lambda_any_8 (ws_ yX1_lambda_any_8 cX1_lambda_any_8 6 (some .boolean)) d (rrV G pZ) [aR 15 p1, aR 4 p2] w (g_X1_lambda_any_8 p1 p2 w)) {g_X1_lambda_all_7 : Option Nat → Option Nat → Wd → Option (Wd × Int32)} (hg_X1_lambda_all_7 : ∀ (p1 : Option Nat) (p2 : Option Nat) (w : Wd), Mt G true l yX1_lambda_all_7 (ws_ yX1_lambda_all_7 cX1_lambda_all_7 6 (some .boolean)) d (rrV G pZ) [aR 15 p1, aR 4 p2] w (g_X1_lambda_all_7 p1 p2 w)) {g_ACC : Nat → Option Nat → Wd → Option (Wd × Int32)} (hg_ACC : ∀ (b : Nat) (p : Option Nat) (w : Wd), Mi G true l d pZ b [aR 4 p] w (g_ACC b p w)) (b : Nat) (p : Option Nat) (w : Wd) : Mi G true l (d + 1) pZ b [aR 4 p] w (fB_ACC d g_X1_lambda_not_9 g_X1_lambda_any_8 g_X1_lambda_all_7 g_ACC b p w) := by
  refine Mi.ite (fun hk => ?_) (fun _ => ?_)
  · refine Mi.ite (fun hgl => ?_) (fun _ => Mi.none)
    exact Mi.of (kd := 24) (n := 1) (caps := []) hG (by decide) (by decide) hk hgl (by decide +kernel) rfl (fun hv => (fun _ h => by cases h)) (sim_X1_lambda_new_3 hG hl d p w) (Or.inl ⟨rfl, q141, rfl⟩) q93 q142 pm_X1_lambda_new_3.2 rfl (Or.inr (Or.inl ⟨rfl, rfl, fun r => ⟨r, rfl⟩⟩))
  refine Mi.ite (fun hk => ?_) (fun _ => ?_)
  · refine Mi.ite (fun hgl => ?_) (fun _ => Mi.none)
    exact Mi.of (kd := 25) (n := 1) (caps := []) hG (by decide) (by decide) hk hgl (by decide +kernel) rfl (fun hv => (fun _ h => by cases h)) (sim_X1_isPoint hG hl d p w) (Or.inl ⟨rfl, q143, rfl⟩) q93 q144 pm_X1_isPoint.2 rfl (Or.inr (Or.inl ⟨rfl, rfl, fun r => ⟨r, rfl⟩⟩))
  refine Mi.ite (fun hk => ?_) (fun _ => ?_)
  · refine Mi.ite (fun hgl => ?_) (fun _ => Mi.none)
    refine Mi.ite (fun h7 => ?_) (fun _ => Mi.none)
    exact Mi.of (kd := 26) (n := 1) (caps := [aR 1 (some 8)]) hG (by decide) (by decide) hk hgl (by decide +kernel) (by show _ = [rf G (gR w b 0)]; rw [h7]; rfl) (fun hv => (okc (fun x e => hv 0 x (h7.trans e)) (fun _ h => by cases h))) (sim_X1_isCrowded hG hl d p w) (Or.inr ⟨rfl, q146, qs1, rfl, rfl, _, rfl⟩) q93 q147 pm_X1_isCrowded.2 rfl (Or.inr (Or.inl ⟨rfl, rfl, fun r => ⟨r, rfl⟩⟩))
  refine Mi.ite (fun hk => ?_) (fun _ => ?_)
  · refine Mi.ite (fun hgl => ?_) (fun _ => Mi.none)
    exact Mi.of (kd := 32) (n := 4) (caps := [aR 51 (gR w b 0), aI (gI w b 1), aI (gI w b 2)]) hG (by decide) (by decide) hk hgl (by decide +kernel) rfl (fun hv => (okc (fun x e => hv 0 x e) (okc (okI w _) (okc (okI w _) (fun _ h => by cases h))))) (sim_X1_lambda_addRangeFilter_10 hG hl d (gR w b 0) (gI w b 1) (gI w b 2) p w false false) (Or.inl ⟨rfl, q926, rfl⟩) q93 q927 pm_X1_lambda_addRangeFilter_10.2 rfl (Or.inr (Or.inl ⟨rfl, rfl, fun r => ⟨r, rfl⟩⟩))
  refine Mi.ite (fun hk => ?_) (fun _ => ?_)
  · refine Mi.ite (fun hgl => ?_) (fun _ => Mi.none)
    refine Mi.ite (fun h7 => ?_) (fun _ => Mi.none)
    exact Mi.of (kd := 33) (n := 2) (caps := [aR 1 (some 8), aI (gI w b 1)]) hG (by decide) (by decide) hk hgl (by decide +kernel) (by show _ = [rf G (gR w b 0), cv G (aI (gI w b 1))]; rw [h7]; rfl) (fun hv => (okc (fun x e => hv 0 x (h7.trans e)) (okc (okI w _) (fun _ h => by cases h)))) (sim_X1_lambda_addHeavierFilter_11 hG hl d (gI w b 1) p w false) (Or.inr ⟨rfl, q944, qs33, rfl, rfl, _, rfl⟩) q93 q945 pm_X1_lambda_addHeavierFilter_11.2 rfl (Or.inr (Or.inl ⟨rfl, rfl, fun r => ⟨r, rfl⟩⟩))
  refine Mi.ite (fun hk => ?_) (fun _ => ?_)
  · refine Mi.ite (fun hgl => ?_) (fun _ => Mi.none)
    exact Mi.of (kd := 34) (n := 2) (caps := [aR 15 (gR w b 0)]) hG (by decide) (by decide) hk hgl (by decide +kernel) rfl (fun hv => (okc (fun x e => hv 0 x e) (fun _ h => by cases h))) (hg_X1_lambda_all_7 (gR w b 0) p w) (Or.inl ⟨rfl, q960, rfl⟩) q93 q961 pm_X1_lambda_all_7.2 rfl (Or.inr (Or.inl ⟨rfl, rfl, fun r => ⟨r, rfl⟩⟩))
  refine Mi.ite (fun hk => ?_) (fun _ => ?_)
  · refine Mi.ite (fun hgl => ?_) (fun _ => Mi.none)
    exact Mi.of (kd := 35) (n := 2) (caps := [aR 15 (gR w b 0)]) hG (by decide) (by decide) hk hgl (by decide +kernel) rfl (fun hv => (okc (fun x e => hv 0 x e) (fun _ h => by cases h))) (hg_X1_lambda_any_8 (gR w b 0) p w) (Or.inl ⟨rfl, q969, rfl⟩) q93 q970 pm_X1_lambda_any_8.2 rfl (Or.inr (Or.inl ⟨rfl, rfl, fun r => ⟨r, rfl⟩⟩))
  refine Mi.ite (fun hk => ?_) (fun _ => ?_)
  · refine Mi.ite (fun hgl => ?_) (fun _ => Mi.none)
    exact Mi.of (kd := 36) (n := 2) (caps := [aR 50 (gR w b 0)]) hG (by decide) (by decide) hk hgl (by decide +kernel) rfl (fun hv => (okc (fun x e => hv 0 x e) (fun _ h => by cases h))) (hg_X1_lambda_not_9 (gR w b 0) p w) (Or.inl ⟨rfl, q974, rfl⟩) q93 q975 pm_X1_lambda_not_9.2 rfl (Or.inr (Or.inl ⟨rfl, rfl, fun r => ⟨r, rfl⟩⟩))
  refine Mi.ite (fun hk => ?_) (fun _ => ?_)
  · refine Mi.ite (fun hgl => ?_) (fun _ => Mi.none)
    exact Mi.of (kd := 37) (n := 3) (caps := [aR 51 (gR w b 0), aI (gI w b 1)]) hG (by decide) (by decide) hk hgl (by decide +kernel) rfl (fun hv => (okc (fun x e => hv 0 x e) (okc (okI w _) (fun _ h => by cases h)))) (sim_X5_lambda_comparison_0 hG hl d (gR w b 0) (gI w b 1) p w false) (Or.inl ⟨rfl, q1162, rfl⟩) q107 q1163 pm_X5_lambda_comparison_0.2 rfl (Or.inr (Or.inl ⟨rfl, rfl, fun r => ⟨r, rfl⟩⟩))
  refine Mi.ite (fun hk => ?_) (fun _ => ?_)
  · refine Mi.ite (fun hgl => ?_) (fun _ => Mi.none)
    exact Mi.of (kd := 38) (n := 3) (caps := [aR 51 (gR w b 0), aI (gI w b 1)]) hG (by decide) (by decide) hk hgl (by decide +kernel) rfl (fun hv => (okc (fun x e => hv 0 x e) (okc (okI w _) (fun _ h => by cases h)))) (sim_X5_lambda_below_1 hG hl d (gR w b 0) (gI w b 1) p w false) (Or.inl ⟨rfl, q1170, rfl⟩) q107 q1171 pm_X5_lambda_below_1.2 rfl (Or.inr (Or.inl ⟨rfl, rfl, fun r => ⟨r, rfl⟩⟩))
  refine Mi.ite (fun hk => ?_) (fun _ => ?_)
  · refine Mi.ite (fun hgl => ?_) (fun _ => Mi.none)
    exact Mi.of (kd := 39) (n := 3) (caps := [aR 51 (gR w b 0), aI (gI w b 1)]) hG (by decide) (by decide) hk hgl (by decide +kernel) rfl (fun hv => (okc (fun x e => hv 0 x e) (okc (okI w _) (fun _ h => by cases h)))) (sim_X5_lambda_above_2 hG hl d (gR w b 0) (gI w b 1) p w false) (Or.inl ⟨rfl, q1176, rfl⟩) q107 q1177 pm_X5_lambda_above_2.2 rfl (Or.inr (Or.inl ⟨rfl, rfl, fun r => ⟨r, rfl⟩⟩))
  exact Mi.none
def fs_X1_lambda_not_9 : Nat → (Option Nat → Option Nat → Wd → Option (Wd × Int32)) × (Option Nat → Option Nat → Wd → Option (Wd × Int32)) × (Option Nat → Option Nat → Wd → Option (Wd × Int32)) × (Nat → Option Nat → Wd → Option (Wd × Int32))
  | 0 => (fun _ _ _ => none, fun _ _ _ => none, fun _ _ _ => none, fun _ _ _ => none)
  | d + 1 => (fB_X1_lambda_not_9 d (fs_X1_lambda_not_9 d).1 (fs_X1_lambda_not_9 d).2.1 (fs_X1_lambda_not_9 d).2.2.1 (fs_X1_lambda_not_9 d).2.2.2, fB_X1_lambda_any_8 d (fs_X1_lambda_not_9 d).1 (fs_X1_lambda_not_9 d).2.1 (fs_X1_lambda_not_9 d).2.2.1 (fs_X1_lambda_not_9 d).2.2.2, fB_X1_lambda_all_7 d (fs_X1_lambda_not_9 d).1 (fs_X1_lambda_not_9 d).2.1 (fs_X1_lambda_not_9 d).2.2.1 (fs_X1_lambda_not_9 d).2.2.2, fB_ACC d (fs_X1_lambda_not_9 d).1 (fs_X1_lambda_not_9 d).2.1 (fs_X1_lambda_not_9 d).2.2.1 (fs_X1_lambda_not_9 d).2.2.2)
def f_X1_lambda_not_9 (d : Nat) : (Option Nat → Option Nat → Wd → Option (Wd × Int32)) := (fs_X1_lambda_not_9 d).1
def f_X1_lambda_any_8 (d : Nat) : (Option Nat → Option Nat → Wd → Option (Wd × Int32)) := (fs_X1_lambda_not_9 d).2.1
def f_X1_lambda_all_7 (d : Nat) : (Option Nat → Option Nat → Wd → Option (Wd × Int32)) := (fs_X1_lambda_not_9 d).2.2.1
def f_ACC (d : Nat) : (Nat → Option Nat → Wd → Option (Wd × Int32)) := (fs_X1_lambda_not_9 d).2.2.2
theorem sims_X1_lambda_not_9 {G : Gx} (hG : GW G) {l : Launch} (hl : l.stackTraces = false) : ∀ (d : Nat), (∀ (p1 : Option Nat) (p2 : Option Nat) (w : Wd), Mt G true l yX1_lambda_not_9 (ws_ yX1_lambda_not_9 cX1_lambda_not_9 2 (some .boolean)) d (rrV G pZ) [aR 50 p1, aR 4 p2] w (f_X1_lambda_not_9 d p1 p2 w)) ∧ (∀ (p1 : Option Nat) (p2 : Option Nat) (w : Wd), Mt G true l yX1_lambda_any_8 (ws_ yX1_lambda_any_8 cX1_lambda_any_8 6 (some .boolean)) d (rrV G pZ) [aR 15 p1, aR 4 p2] w (f_X1_lambda_any_8 d p1 p2 w)) ∧ (∀ (p1 : Option Nat) (p2 : Option Nat) (w : Wd), Mt G true l yX1_lambda_all_7 (ws_ yX1_lambda_all_7 cX1_lambda_all_7 6 (some .boolean)) d (rrV G pZ) [aR 15 p1, aR 4 p2] w (f_X1_lambda_all_7 d p1 p2 w)) ∧ (∀ (b : Nat) (p : Option Nat) (w : Wd), Mi G true l d pZ b [aR 4 p] w (f_ACC d b p w)) := by
  intro d
  induction d with
  | zero => exact ⟨(by intros; intro _ h9; cases (show (none : Option (Wd × Int32)) = some _ from h9)), (by intros; intro _ h9; cases (show (none : Option (Wd × Int32)) = some _ from h9)), (by intros; intro _ h9; cases (show (none : Option (Wd × Int32)) = some _ from h9)), (by intros; intro _ h9; cases (show (none : Option (Wd × Int32)) = some _ from h9))⟩
  | succ d ih => exact ⟨simB_X1_lambda_not_9 hG hl d ih.1 ih.2.1 ih.2.2.1 ih.2.2.2, simB_X1_lambda_any_8 hG hl d ih.1 ih.2.1 ih.2.2.1 ih.2.2.2, simB_X1_lambda_all_7 hG hl d ih.1 ih.2.1 ih.2.2.1 ih.2.2.2, simB_ACC hG hl d ih.1 ih.2.1 ih.2.2.1 ih.2.2.2⟩
theorem sim_X1_lambda_not_9 {G : Gx} (hG : GW G) {l : Launch} (hl : l.stackTraces = false) (d : Nat) : ∀ (p1 : Option Nat) (p2 : Option Nat) (w : Wd), Mt G true l yX1_lambda_not_9 (ws_ yX1_lambda_not_9 cX1_lambda_not_9 2 (some .boolean)) d (rrV G pZ) [aR 50 p1, aR 4 p2] w (f_X1_lambda_not_9 d p1 p2 w) := (sims_X1_lambda_not_9 hG hl d).1
theorem sim_X1_lambda_any_8 {G : Gx} (hG : GW G) {l : Launch} (hl : l.stackTraces = false) (d : Nat) : ∀ (p1 : Option Nat) (p2 : Option Nat) (w : Wd), Mt G true l yX1_lambda_any_8 (ws_ yX1_lambda_any_8 cX1_lambda_any_8 6 (some .boolean)) d (rrV G pZ) [aR 15 p1, aR 4 p2] w (f_X1_lambda_any_8 d p1 p2 w) := (sims_X1_lambda_not_9 hG hl d).2.1
theorem sim_X1_lambda_all_7 {G : Gx} (hG : GW G) {l : Launch} (hl : l.stackTraces = false) (d : Nat) : ∀ (p1 : Option Nat) (p2 : Option Nat) (w : Wd), Mt G true l yX1_lambda_all_7 (ws_ yX1_lambda_all_7 cX1_lambda_all_7 6 (some .boolean)) d (rrV G pZ) [aR 15 p1, aR 4 p2] w (f_X1_lambda_all_7 d p1 p2 w) := (sims_X1_lambda_not_9 hG hl d).2.2.1
theorem sim_ACC {G : Gx} (hG : GW G) {l : Launch} (hl : l.stackTraces = false) (d : Nat) : ∀ (b : Nat) (p : Option Nat) (w : Wd), Mi G true l d pZ b [aR 4 p] w (f_ACC d b p w) := (sims_X1_lambda_not_9 hG hl d).2.2.2

theorem pm_X1_feed : yX1_feed.cls = RX1 ∧ yX1_feed.cls ≠ "java/lang/invoke/MethodHandle" ∧ yX1_feed.cls ≠ "java/lang/invoke/VarHandle" ∧ (parseMethodDescriptor yX1_feed.desc).map (fun d => d.parameters.length) = some 1 := by decide +kernel
def f_X1_feed (d : Nat) (p1 : Int32) (w : Wd) : Option (Wd × (Int32 ⊕ Nat)) :=
  match d with
  | 0 => none
  | d + 1 =>
    (f_X1_isBetween d p1 0 255 w).bind fun r1 =>
    bX (f_X1_check d r1.2 r1.1) fun wr2 r2 =>
    if (gI wr2 8 21) = 60 then
      if 8 ≤ d then
        if room wr2 6 = true then
          some (nw wr2 41 0 6, .inr (gN wr2))
        else none
      else none
    else
      if ib (gI wr2 8 21) 60 = true then
        some (sI (sI wr2 22 (gI wr2 8 21).toNatClampNeg (vp_nar .byte p1.toInt8.toInt32)) 8 21 ((gI (sI wr2 22 (gI wr2 8 21).toNatClampNeg (vp_nar .byte p1.toInt8.toInt32)) 8 21) + 1), .inl (gI (sI (sI wr2 22 (gI wr2 8 21).toNatClampNeg (vp_nar .byte p1.toInt8.toInt32)) 8 21 ((gI (sI wr2 22 (gI wr2 8 21).toNatClampNeg (vp_nar .byte p1.toInt8.toInt32)) 8 21) + 1)) 8 21))
      else none
theorem sim_X1_feed {G : Gx} (hG : GW G) {l : Launch} (hl : l.stackTraces = false) (d : Nat) (p1 : Int32) (w : Wd) (fp1 : Bool) : Mt G true l yX1_feed (ws_ yX1_feed cX1_feed 2 (some .int)) d (rrX G pI) [aR 1 (some 8), aB fp1 p1] w (f_X1_feed d p1 w) := by
  refine Mt.of (own := "IntervalTree") hG hl (by decide +kernel) rfl rfl ?_
  intro M hM hr hnm hxt hnd K
  subst hM
  cases d with
  | zero => exact j_none
  | succ d =>
    refine j_iload_n K dX1_feed_0 rfl ?_
    refine j_iconstZ K dX1_feed_1 rfl (Or.inl rfl) ?_
    refine j_sipush (x := 255) K dX1_feed_2 (by decide +kernel) ?_
    refine j_callS _ K (sim_X1_isBetween hG hl d p1 0 255 w fp1 true false) dX1_feed_5 q444 q445 q93 q446 pm_X1_isBetween.2 rfl rfl rfl rfl (fun r1 _ => ?_)
    refine j_callSX _ K hxt (sim_X1_check hG hl d r1.2 r1.1) dX1_feed_8 q447 q448 q93 q449 pm_X1_check.2 rfl rfl rfl rfl (fun wr2 r2 _ => ?_)
    refine j_aload_n K dX1_feed_11 rfl ?_
    refine j_getI (k := 21) K dX1_feed_12 rfl rfl rfl q204 rfl rfl rfl ?_
    refine j_bipush (x := 60) K dX1_feed_15 (by decide +kernel) ?_
    refine j_icmp_ne 31 K dX1_feed_17 (by decide) ?_ ?_
    · refine j_aload_n K dX1_feed_31 rfl ?_
      refine j_getA (k := 20) 7 K dX1_feed_32 rfl rfl rfl q202 rfl rfl (by decide) rfl rfl rfl ?_
      refine j_aload_n K dX1_feed_35 rfl ?_
      refine j_getI (k := 21) K dX1_feed_36 rfl rfl rfl q204 rfl rfl rfl ?_
      refine j_iload_n K dX1_feed_39 rfl ?_
      refine j_i2b K dX1_feed_40 ?_
      refine j_ib (fun hi3 => ?_)
      refine j_bas K dX1_feed_41 rfl (fxLen2 7 rfl rfl) hi3 ?_
      refine j_aload_n K dX1_feed_42 rfl ?_
      refine j_dup K dX1_feed_43 rfl ?_
      refine j_getI (k := 21) K dX1_feed_44 rfl rfl rfl q204 rfl rfl rfl ?_
      refine j_iconstZ K dX1_feed_47 rfl (Or.inr rfl) ?_
      refine j_iadd K dX1_feed_48 ?_
      refine j_putI (k := 21) K dX1_feed_49 rfl rfl q204 rfl (Or.inl rfl) rfl rfl rfl rfl ?_
      refine j_aload_n K dX1_feed_52 rfl ?_
      refine j_getI (k := 21) K dX1_feed_53 rfl rfl rfl q204 rfl rfl rfl ?_
      exact j_iretX K hr dX1_feed_56
    · refine j_dp (fun h84 => ?_)
      refine j_rm (fun hr5 => ?_)
      refine j_mkW (kd := 41) K rfl (by decide +kernel) (by decide +kernel) rfl q520 q100 q983 at_X1_41_1 at_X1_41_2 at_X1_41_3 rfl dX1_feed_20 dX1_feed_23 dX1_feed_24 dX1_feed_27 (Nat.le_succ_of_le h84) hr5 rfl ?_
      refine j_athrow K dX1_feed_30 ?_
      exact j_outN K hxt rfl

theorem pm_X5_init : yX5_init.cls = RX5 ∧ yX5_init.cls ≠ "java/lang/invoke/MethodHandle" ∧ yX5_init.cls ≠ "java/lang/invoke/VarHandle" ∧ (parseMethodDescriptor yX5_init.desc).map (fun d => d.parameters.length) = some 1 := by decide +kernel
def f_X5_init (d : Nat) (a0 : Nat) (w : Wd) : Option (Wd × Unit) :=
  match d with
  | 0 => none
  | d + 1 =>
    some (sR w a0 2 (some 8), ())
theorem sim_X5_init {G : Gx} (hG : GW G) {l : Launch} (hl : l.stackTraces = false) (d : Nat) (a0 : Nat) (w : Wd) : Mt G true l yX5_init (ws_ yX5_init cX5_init 2 (none)) d (rrV G pU) [aR 5 (some a0), aR 1 (some 8)] w (f_X5_init d a0 w) := by
  refine Mt.of (own := "IntervalTree$Parser") hG hl (by decide +kernel) rfl rfl ?_
  intro M hM hr hnm hxt hnd K
  subst hM
  cases d with
  | zero => exact j_none
  | succ d =>
    refine j_aload_n K dX5_init_0 rfl ?_
    refine j_aload_n K dX5_init_1 rfl ?_
    refine j_putR (k := 2) K dX5_init_2 rfl rfl q1000 rfl (Or.inr ⟨rfl, hnm, rfl⟩) rfl (Or.inl ⟨_, rfl⟩) rfl (by decide) rfl (fun _ => by decide +kernel) rfl ?_
    refine j_aload_n K dX5_init_5 rfl ?_
    refine j_objI K dX5_init_6 q997 q122 q123 (by omega) rfl rfl ?_
    exact j_vret K hr dX5_init_9

theorem pm_X5_here : yX5_here.cls = RX5 ∧ yX5_here.cls ≠ "java/lang/invoke/MethodHandle" ∧ yX5_here.cls ≠ "java/lang/invoke/VarHandle" ∧ (parseMethodDescriptor yX5_here.desc).map (fun d => d.parameters.length) = some 0 := by decide +kernel
def f_X5_here (d : Nat) (a0 : Nat) (w : Wd) : Option (Wd × Int32) :=
  match d with
  | 0 => none
  | d + 1 =>
    if gR w a0 2 = some 8 then
      if (gI w 8 21) ≤ (gI w a0 0) then
        some (w, (-1))
      else
        if ib (gI w a0 0) 60 = true then
          some (w, (gI w 22 (gI w a0 0).toNatClampNeg))
        else none
    else none
theorem sim_X5_here {G : Gx} (hG : GW G) {l : Launch} (hl : l.stackTraces = false) (d : Nat) (a0 : Nat) (w : Wd) : Mt G true l yX5_here (ws_ yX5_here cX5_here 1 (some .int)) d (rrV G pI) [aR 5 (some a0)] w (f_X5_here d a0 w) := by
  refine Mt.of (own := "IntervalTree$Parser") hG hl (by decide +kernel) rfl rfl ?_
  intro M hM hr hnm hxt hnd K
  subst hM
  cases d with
  | zero => exact j_none
  | succ d =>
    refine j_aload_n K dX5_here_0 rfl ?_
    refine j_getI (k := 0) K dX5_here_1 rfl rfl rfl q998 rfl rfl rfl ?_
    refine j_aload_n K dX5_here_4 rfl ?_
    refine j_getR (k := 2) K dX5_here_5 rfl rfl rfl q1000 rfl rfl (by decide) rfl ?_
    refine j_is 8 (fun h71 => ?_)
    refine j_getIN (k := 21) K dX5_here_8 rfl rfl rfl q203 rfl rfl h71 ?_
    refine j_icmp_ge 29 K dX5_here_11 (by decide) ?_ ?_
    · refine j_iconst (x := (-1)) K dX5_here_29 rfl ?_
      exact j_iret K hr dX5_here_30
    · refine j_aload_n K dX5_here_14 rfl ?_
      refine j_getR (k := 2) K dX5_here_15 rfl rfl rfl q1000 rfl rfl (by decide) rfl ?_
      refine j_getAN (k := 20) 7 K dX5_here_18 rfl rfl rfl q201 rfl rfl (by decide) rfl rfl h71 ?_
      refine j_aload_n K dX5_here_21 rfl ?_
      refine j_getI (k := 0) K dX5_here_22 rfl rfl rfl q998 rfl rfl rfl ?_
      refine j_ib (fun hi2 => ?_)
      refine j_bal K dX5_here_25 rfl (fxLen 7 rfl rfl) hi2 ?_
      refine j_goto 30 K dX5_here_26 (by decide) ?_
      exact j_iret K hr dX5_here_30

theorem pm_X5_skip : yX5_skip.cls = RX5 ∧ yX5_skip.cls ≠ "java/lang/invoke/MethodHandle" ∧ yX5_skip.cls ≠ "java/lang/invoke/VarHandle" ∧ (parseMethodDescriptor yX5_skip.desc).map (fun d => d.parameters.length) = some 1 := by decide +kernel
def f_X5_skip (d : Nat) (a0 : Nat) (p1 : Int32) (w : Wd) : Option (Wd × Int32) :=
  match d with
  | 0 => none
  | d + 1 =>
    (f_X5_here d a0 w).bind fun r1 =>
    if r1.2 = p1 then
      some (sI r1.1 a0 0 ((gI r1.1 a0 0) + 1), 1)
    else
      some (r1.1, 0)
theorem sim_X5_skip {G : Gx} (hG : GW G) {l : Launch} (hl : l.stackTraces = false) (d : Nat) (a0 : Nat) (p1 : Int32) (w : Wd) (fp1 : Bool) : Mt G true l yX5_skip (ws_ yX5_skip cX5_skip 2 (some .boolean)) d (rrV G pZ) [aR 5 (some a0), aB fp1 p1] w (f_X5_skip d a0 p1 w) := by
  refine Mt.of (own := "IntervalTree$Parser") hG hl (by decide +kernel) rfl rfl ?_
  intro M hM hr hnm hxt hnd K
  subst hM
  cases d with
  | zero => exact j_none
  | succ d =>
    refine j_aload_n K dX5_skip_0 rfl ?_
    refine j_callV _ K (sim_X5_here hG hl d a0 w) dX5_skip_1 rfl rfl q1028 q1030 qs39 q107 q1031 pm_X5_here rfl rfl rfl rfl rfl (fun r1 _ => ?_)
    refine j_iload_n K dX5_skip_4 rfl ?_
    refine j_icmp_eq 10 K dX5_skip_5 (by decide) ?_ ?_
    · refine j_aload_n K dX5_skip_10 rfl ?_
      refine j_dup K dX5_skip_11 rfl ?_
      refine j_getI (k := 0) K dX5_skip_12 rfl rfl rfl q998 rfl rfl rfl ?_
      refine j_iconstZ K dX5_skip_15 rfl (Or.inr rfl) ?_
      refine j_iadd K dX5_skip_16 ?_
      refine j_putI (k := 0) K dX5_skip_17 rfl rfl q998 rfl (Or.inl rfl) rfl rfl rfl rfl ?_
      refine j_iconstZ K dX5_skip_20 rfl (Or.inr rfl) ?_
      exact j_zret K hr dX5_skip_21
    · refine j_iconstZ K dX5_skip_8 rfl (Or.inl rfl) ?_
      exact j_zret K hr dX5_skip_9

theorem pm_X5_isDigit : yX5_isDigit.cls = RX5 ∧ yX5_isDigit.cls ≠ "java/lang/invoke/MethodHandle" ∧ yX5_isDigit.cls ≠ "java/lang/invoke/VarHandle" ∧ (parseMethodDescriptor yX5_isDigit.desc).map (fun d => d.parameters.length) = some 0 := by decide +kernel
def f_X5_isDigit (d : Nat) (a0 : Nat) (w : Wd) : Option (Wd × Int32) :=
  match d with
  | 0 => none
  | d + 1 =>
    (f_X5_here d a0 w).bind fun r1 =>
    (f_X1_isBetween d r1.2 48 57 r1.1).bind fun r2 =>
    some (r2.1, r2.2)
theorem sim_X5_isDigit {G : Gx} (hG : GW G) {l : Launch} (hl : l.stackTraces = false) (d : Nat) (a0 : Nat) (w : Wd) : Mt G true l yX5_isDigit (ws_ yX5_isDigit cX5_isDigit 1 (some .boolean)) d (rrV G pZ) [aR 5 (some a0)] w (f_X5_isDigit d a0 w) := by
  refine Mt.of (own := "IntervalTree$Parser") hG hl (by decide +kernel) rfl rfl ?_
  intro M hM hr hnm hxt hnd K
  subst hM
  cases d with
  | zero => exact j_none
  | succ d =>
    refine j_aload_n K dX5_isDigit_0 rfl ?_
    refine j_callV _ K (sim_X5_here hG hl d a0 w) dX5_isDigit_1 rfl rfl q1028 q1030 qs39 q107 q1031 pm_X5_here rfl rfl rfl rfl rfl (fun r1 _ => ?_)
    refine j_bipush (x := 48) K dX5_isDigit_4 (by decide +kernel) ?_
    refine j_bipush (x := 57) K dX5_isDigit_6 (by decide +kernel) ?_
    refine j_callSN _ K (sim_X1_isBetween hG hl d r1.2 48 57 r1.1 false false false) dX5_isDigit_8 q1065 q445 q93 q446 pm_X1_isBetween.2 rfl rfl rfl rfl (fun r2 _ => ?_)
    exact j_zret K hr dX5_isDigit_11

theorem pm_X5_below : yX5_below.cls = RX5 ∧ yX5_below.cls ≠ "java/lang/invoke/MethodHandle" ∧ yX5_below.cls ≠ "java/lang/invoke/VarHandle" ∧ (parseMethodDescriptor yX5_below.desc).map (fun d => d.parameters.length) = some 2 := by decide +kernel
def f_X5_below (d : Nat) (a0 : Nat) (p1 : Option Nat) (p2 : Int32) (w : Wd) : Option (Wd × Option Nat) :=
  match d with
  | 0 => none
  | d + 1 =>
    if 49 ≤ d then
      (nwB w 38 2 2).bind fun w2 =>
      some (setAs w2 (gN w) 0 [aR 51 p1, aI p2], (some (gN w)))
    else none
theorem sim_X5_below {G : Gx} (hG : GW G) {l : Launch} (hl : l.stackTraces = false) (d : Nat) (a0 : Nat) (p1 : Option Nat) (p2 : Int32) (w : Wd) (fp2 : Bool) : Mt G true l yX5_below (ws_ yX5_below cX5_below 3 (some (.object "IntervalTree$Filter"))) d (rrV G (pR 50)) [aR 5 (some a0), aR 51 p1, aB fp2 p2] w (f_X5_below d a0 p1 p2 w) := by
  refine Mt.of (own := "IntervalTree$Parser") hG hl (by decide +kernel) rfl rfl ?_
  intro M hM hr hnm hxt hnd K
  subst hM
  cases d with
  | zero => exact j_none
  | succ d =>
    refine j_aload_n K dX5_below_0 rfl ?_
    refine j_iload_n K dX5_below_1 rfl ?_
    refine j_if (fun hd1 => ?_)
    refine j_indyM (kd := 38) (t := 50) [aR 51 p1, aB fp2 p2] K hnd (by decide) (by decide) rfl rfl rfl dX5_below_2 rfl rfl (by decide) rfl hd1 rfl rfl (fun w2 => ?_)
    exact j_aret K hr (Or.inl ⟨_, rfl⟩) dX5_below_7

theorem pm_X5_above : yX5_above.cls = RX5 ∧ yX5_above.cls ≠ "java/lang/invoke/MethodHandle" ∧ yX5_above.cls ≠ "java/lang/invoke/VarHandle" ∧ (parseMethodDescriptor yX5_above.desc).map (fun d => d.parameters.length) = some 2 := by decide +kernel
def f_X5_above (d : Nat) (a0 : Nat) (p1 : Option Nat) (p2 : Int32) (w : Wd) : Option (Wd × Option Nat) :=
  match d with
  | 0 => none
  | d + 1 =>
    if 49 ≤ d then
      (nwB w 39 2 2).bind fun w2 =>
      some (setAs w2 (gN w) 0 [aR 51 p1, aI p2], (some (gN w)))
    else none
theorem sim_X5_above {G : Gx} (hG : GW G) {l : Launch} (hl : l.stackTraces = false) (d : Nat) (a0 : Nat) (p1 : Option Nat) (p2 : Int32) (w : Wd) (fp2 : Bool) : Mt G true l yX5_above (ws_ yX5_above cX5_above 3 (some (.object "IntervalTree$Filter"))) d (rrV G (pR 50)) [aR 5 (some a0), aR 51 p1, aB fp2 p2] w (f_X5_above d a0 p1 p2 w) := by
  refine Mt.of (own := "IntervalTree$Parser") hG hl (by decide +kernel) rfl rfl ?_
  intro M hM hr hnm hxt hnd K
  subst hM
  cases d with
  | zero => exact j_none
  | succ d =>
    refine j_aload_n K dX5_above_0 rfl ?_
    refine j_iload_n K dX5_above_1 rfl ?_
    refine j_if (fun hd1 => ?_)
    refine j_indyM (kd := 39) (t := 50) [aR 51 p1, aB fp2 p2] K hnd (by decide) (by decide) rfl rfl rfl dX5_above_2 rfl rfl (by decide) rfl hd1 rfl rfl (fun w2 => ?_)
    exact j_aret K hr (Or.inl ⟨_, rfl⟩) dX5_above_7

theorem pm_X1_matchCount : yX1_matchCount.cls = RX1 ∧ yX1_matchCount.cls ≠ "java/lang/invoke/MethodHandle" ∧ yX1_matchCount.cls ≠ "java/lang/invoke/VarHandle" ∧ (parseMethodDescriptor yX1_matchCount.desc).map (fun d => d.parameters.length) = some 1 := by decide +kernel
def b_X1_matchCount_50 (d : Nat) (k16 : Int32 → Int32 → Int32 → Wd → Option (Wd × (Int32 ⊕ Nat))) (x1 : Int32) (x3 : Int32) (s0 : Int32) (s1 : Int32) (w : Wd) : Option (Wd × (Int32 ⊕ Nat)) :=
  k16 x1 (s0 + s1) (x3 + 1) w
def b_X1_matchCount_16 (d : Nat) : Nat → Int32 → Int32 → Int32 → Wd → Option (Wd × (Int32 ⊕ Nat))
  | 0, _, _, _, _ => none
  | n + 1, x1, x2, x3, w =>
    if (gI w 8 13) ≤ x3 then
      some (w, .inl x2)
    else
      if ib x1 8 = true then
        if ib x3 100 = true then
          (gR w 10 x1.toNatClampNeg).bind fun a6 =>
          (f_ACC d a6 (gR w 19 x3.toNatClampNeg) w).bind fun r7 =>
          if r7.2 = 0 then
            b_X1_matchCount_50 d (b_X1_matchCount_16 d n) x1 x3 x2 0 r7.1
          else
            b_X1_matchCount_50 d (b_X1_matchCount_16 d n) x1 x3 x2 1 r7.1
        else none
      else none
def f_X1_matchCount (d : Nat) (p1 : Int32) (w : Wd) : Option (Wd × (Int32 ⊕ Nat)) :=
  match d with
  | 0 => none
  | d + 1 =>
    (f_X1_isFilter d p1 w).bind fun r1 =>
    bX (f_X1_check d r1.2 r1.1) fun wr2 r2 =>
    (f_X1_collectLive d wr2).bind fun r3 =>
    b_X1_matchCount_16 d FU p1 0 0 r3.1
theorem sb_X1_matchCount_50 {G : Gx} (hG : GW G) {M : Mx} (hl : (mL M).stackTraces = false) {w0 : Wd} {d : Nat} (K : Cx (G, true, M, 4, w0) cX1_matchCount "IntervalTree" (d + 1)) (hr : (mH M).sig.returnType = some .int) (hnm : (mH M).name = yX1_matchCount.name) (hxt : ∀ x ∈ (mC M).exceptionTable.toList, False) (hnd : (mS M).methodNamed? yX1_matchCount = some (mM M)) {k16 : Int32 → Int32 → Int32 → Wd → Option (Wd × (Int32 ⊕ Nat))} (hk16 : ∀ (x1 : Int32) (x2 : Int32) (x3 : Int32) (w : Wd) (fx1 : Bool) (fx2 : Bool) (fx3 : Bool), Jf (G, true, M, 4, w0) (rrX G pI) (k16 x1 x2 x3 w) w 16 [some (aR 1 (some 8)), some (aB fx1 x1), some (aB fx2 x2), some (aB fx3 x3)] []) : ∀ (x1 : Int32) (x3 : Int32) (s0 : Int32) (s1 : Int32) (w : Wd) (fx1 : Bool) (fx3 : Bool) (fs0 : Bool), Jf (G, true, M, 4, w0) (rrX G pI) (b_X1_matchCount_50 d k16 x1 x3 s0 s1 w) w 50 [some (aR 1 (some 8)), some (aB fx1 x1), none, some (aB fx3 x3)] [aB true s1, aB fs0 s0] := by
  intro x1 x3 s0 s1 w fx1 fx3 fs0
  refine j_iadd K dX1_matchCount_50 ?_
  refine j_istore_n K dX1_matchCount_51 rfl rfl ?_
  refine j_iinc (y := 1) K dX1_matchCount_52 rfl rfl rfl rfl ?_
  refine j_goto 16 K dX1_matchCount_55 (by decide) ?_
  exact hk16 _ _ _ _ _ _ _
theorem sb_X1_matchCount_16 {G : Gx} (hG : GW G) {M : Mx} (hl : (mL M).stackTraces = false) {w0 : Wd} {d : Nat} (K : Cx (G, true, M, 4, w0) cX1_matchCount "IntervalTree" (d + 1)) (hr : (mH M).sig.returnType = some .int) (hnm : (mH M).name = yX1_matchCount.name) (hxt : ∀ x ∈ (mC M).exceptionTable.toList, False) (hnd : (mS M).methodNamed? yX1_matchCount = some (mM M)) : ∀ (n : Nat), ∀ (x1 : Int32) (x2 : Int32) (x3 : Int32) (w : Wd) (fx1 : Bool) (fx2 : Bool) (fx3 : Bool), Jf (G, true, M, 4, w0) (rrX G pI) (b_X1_matchCount_16 d n x1 x2 x3 w) w 16 [some (aR 1 (some 8)), some (aB fx1 x1), some (aB fx2 x2), some (aB fx3 x3)] [] := by
  intro n
  induction n with
  | zero => intros; exact j_none
  | succ n ih =>
    intro x1 x2 x3 w fx1 fx2 fx3
    refine j_iload_n K dX1_matchCount_16 rfl ?_
    refine j_aload_n K dX1_matchCount_17 rfl ?_
    refine j_getI (k := 13) K dX1_matchCount_18 rfl rfl rfl q194 rfl rfl rfl ?_
    refine j_icmp_ge 58 K dX1_matchCount_21 (by decide) ?_ ?_
    · refine j_iload_n K dX1_matchCount_58 rfl ?_
      exact j_iretX K hr dX1_matchCount_59
    · refine j_iload_n K dX1_matchCount_24 rfl ?_
      refine j_aload_n K dX1_matchCount_25 rfl ?_
      refine j_getA (k := 1) 1 K dX1_matchCount_26 rfl rfl rfl q180 rfl rfl (by decide) rfl rfl rfl ?_
      refine j_iload_n K dX1_matchCount_29 rfl ?_
      refine j_ib (fun hi4 => ?_)
      refine j_aal K dX1_matchCount_30 rfl (fun _ => rfl) (by decide) rfl rfl (fxLen 1 rfl rfl) hi4 ?_
      refine j_aload_n K dX1_matchCount_31 rfl ?_
      refine j_getA (k := 12) 4 K dX1_matchCount_32 rfl rfl rfl q193 rfl rfl (by decide) rfl rfl rfl ?_
      refine j_iload_n K dX1_matchCount_35 rfl ?_
      refine j_ib (fun hi5 => ?_)
      refine j_aal K dX1_matchCount_36 rfl (fun _ => rfl) (by decide) rfl rfl (fxLen 4 rfl rfl) hi5 ?_
      refine j_nn (fun a6 ha6 => ?_)
      refine j_callM (t := 50) K (sim_ACC hG hl d a6 (gR w 19 x3.toNatClampNeg) w) dX1_matchCount_37 (by decide) (by decide) q963 ha6 rfl (fun r7 _ => ?_)
      refine j_if_eq 49 K dX1_matchCount_42 (by decide) ?_ ?_
      · refine j_iconstZ K dX1_matchCount_49 rfl (Or.inl rfl) ?_
        exact j_wk (sb_X1_matchCount_50 hG hl K hr hnm hxt hnd ih _ _ _ _ _ _ _ _) ⟨rfl, rfl, rfl, trivial⟩
      · refine j_iconstZ K dX1_matchCount_45 rfl (Or.inr rfl) ?_
        refine j_goto 50 K dX1_matchCount_46 (by decide) ?_
        exact j_wk (sb_X1_matchCount_50 hG hl K hr hnm hxt hnd ih _ _ _ _ _ _ _ _) ⟨rfl, rfl, rfl, trivial⟩
theorem sim_X1_matchCount {G : Gx} (hG : GW G) {l : Launch} (hl : l.stackTraces = false) (d : Nat) (p1 : Int32) (w : Wd) (fp1 : Bool) : Mt G true l yX1_matchCount (ws_ yX1_matchCount cX1_matchCount 4 (some .int)) d (rrX G pI) [aR 1 (some 8), aB fp1 p1] w (f_X1_matchCount d p1 w) := by
  refine Mt.of (own := "IntervalTree") hG hl (by decide +kernel) rfl rfl ?_
  intro M hM hr hnm hxt hnd K
  subst hM
  cases d with
  | zero => exact j_none
  | succ d =>
    refine j_aload_n K dX1_matchCount_0 rfl ?_
    refine j_iload_n K dX1_matchCount_1 rfl ?_
    refine j_callV _ K (sim_X1_isFilter hG hl d p1 w fp1) dX1_matchCount_2 rfl rfl q953 q955 qs34 q93 q956 pm_X1_isFilter rfl rfl rfl rfl rfl (fun r1 _ => ?_)
    refine j_callSX _ K hxt (sim_X1_check hG hl d r1.2 r1.1) dX1_matchCount_5 q447 q448 q93 q449 pm_X1_check.2 rfl rfl rfl rfl (fun wr2 r2 _ => ?_)
    refine j_aload_n K dX1_matchCount_8 rfl ?_
    refine j_callV _ K (sim_X1_collectLive hG hl d wr2) dX1_matchCount_9 rfl rfl q297 q299 qs3 q93 q300 pm_X1_collectLive rfl rfl rfl rfl rfl (fun r3 _ => ?_)
    refine j_iconstZ K dX1_matchCount_12 rfl (Or.inl rfl) ?_
    refine j_istore_n K dX1_matchCount_13 rfl rfl ?_
    refine j_iconstZ K dX1_matchCount_14 rfl (Or.inl rfl) ?_
    refine j_istore_n K dX1_matchCount_15 rfl rfl ?_
    exact sb_X1_matchCount_16 hG hl K hr hnm hxt hnd FU _ _ _ _ _ _ _

theorem pm_X1_accepts : yX1_accepts.cls = RX1 ∧ yX1_accepts.cls ≠ "java/lang/invoke/MethodHandle" ∧ yX1_accepts.cls ≠ "java/lang/invoke/VarHandle" ∧ (parseMethodDescriptor yX1_accepts.desc).map (fun d => d.parameters.length) = some 2 := by decide +kernel
def f_X1_accepts (d : Nat) (p1 : Int32) (p2 : Int32) (w : Wd) : Option (Wd × (Int32 ⊕ Nat)) :=
  match d with
  | 0 => none
  | d + 1 =>
    (f_X1_isFilter d p1 w).bind fun r1 =>
    bX (f_X1_check d r1.2 r1.1) fun wr2 r2 =>
    if ib p1 8 = true then
      bX (f_X1_inTree d p2 wr2) fun wr4 r4 =>
      (gR wr2 10 p1.toNatClampNeg).bind fun a5 =>
      (f_ACC d a5 r4 wr4).bind fun r6 =>
      some (r6.1, .inl r6.2)
    else none
theorem sim_X1_accepts {G : Gx} (hG : GW G) {l : Launch} (hl : l.stackTraces = false) (d : Nat) (p1 : Int32) (p2 : Int32) (w : Wd) (fp1 : Bool) (fp2 : Bool) : Mt G true l yX1_accepts (ws_ yX1_accepts cX1_accepts 3 (some .boolean)) d (rrX G pZ) [aR 1 (some 8), aB fp1 p1, aB fp2 p2] w (f_X1_accepts d p1 p2 w) := by
  refine Mt.of (own := "IntervalTree") hG hl (by decide +kernel) rfl rfl ?_
  intro M hM hr hnm hxt hnd K
  subst hM
  cases d with
  | zero => exact j_none
  | succ d =>
    refine j_aload_n K dX1_accepts_0 rfl ?_
    refine j_iload_n K dX1_accepts_1 rfl ?_
    refine j_callV _ K (sim_X1_isFilter hG hl d p1 w fp1) dX1_accepts_2 rfl rfl q953 q955 qs34 q93 q956 pm_X1_isFilter rfl rfl rfl rfl rfl (fun r1 _ => ?_)
    refine j_callSX _ K hxt (sim_X1_check hG hl d r1.2 r1.1) dX1_accepts_5 q447 q448 q93 q449 pm_X1_check.2 rfl rfl rfl rfl (fun wr2 r2 _ => ?_)
    refine j_aload_n K dX1_accepts_8 rfl ?_
    refine j_getA (k := 1) 1 K dX1_accepts_9 rfl rfl rfl q180 rfl rfl (by decide) rfl rfl rfl ?_
    refine j_iload_n K dX1_accepts_12 rfl ?_
    refine j_ib (fun hi3 => ?_)
    refine j_aal K dX1_accepts_13 rfl (fun _ => rfl) (by decide) rfl rfl (fxLen 1 rfl rfl) hi3 ?_
    refine j_aload_n K dX1_accepts_14 rfl ?_
    refine j_iload_n K dX1_accepts_15 rfl ?_
    refine j_callVX _ K hxt (sim_X1_inTree hG hl d p2 wr2 fp2) dX1_accepts_16 rfl rfl q639 q641 qs20 q93 q642 pm_X1_inTree rfl rfl rfl rfl rfl (fun wr4 r4 _ => ?_)
    refine j_nn (fun a5 ha5 => ?_)
    refine j_callM (t := 50) K (sim_ACC hG hl d a5 r4 wr4) dX1_accepts_19 (by decide) (by decide) q963 ha5 rfl (fun r6 _ => ?_)
    exact j_zretX K hr dX1_accepts_24

theorem pm_X1_following : yX1_following.cls = RX1 ∧ yX1_following.cls ≠ "java/lang/invoke/MethodHandle" ∧ yX1_following.cls ≠ "java/lang/invoke/VarHandle" ∧ (parseMethodDescriptor yX1_following.desc).map (fun d => d.parameters.length) = some 1 := by decide +kernel
def b_X1_following_46 (d : Nat) : Nat → Option Nat → Option Nat → Wd → Option (Wd × Option Nat)
  | 0, _, _, _ => none
  | n + 1, x1, x2, w =>
    (x2).elim
      (some (w, x2))
      fun a3 =>
      (x1).bind fun a4 =>
      (gR w a4 2).bind fun a5 =>
      (f_ACC d a5 x2 w).bind fun r6 =>
      if r6.2 = 0 then
        (f_X1_ceilingIn d (gR r6.1 8 4) (gI r6.1 a3 1) (gI r6.1 a3 2) ((gI r6.1 a3 0) + 1) r6.1).bind fun r7 =>
        b_X1_following_46 d n x1 r7.2 r7.1
      else
        some (r6.1, x2)
def b_X1_following_45 (d : Nat) (x1 : Option Nat) (s0 : Option Nat) (w : Wd) : Option (Wd × Option Nat) :=
  b_X1_following_46 d FU x1 s0 w
def f_X1_following (d : Nat) (p1 : Option Nat) (w : Wd) : Option (Wd × Option Nat) :=
  match d with
  | 0 => none
  | d + 1 =>
    (p1).bind fun a1 =>
    if (gI w a1 1) = 0 then
      (f_X1_ceilingIn d (gR w 8 4) (-1000) (-2147483648) (-1) w).bind fun r2 =>
      b_X1_following_45 d p1 r2.2 r2.1
    else
      (f_X1_ceilingIn d (gR w 8 4) (gI w a1 3) (gI w a1 4) ((gI w a1 5) + 1) w).bind fun r3 =>
      b_X1_following_45 d p1 r3.2 r3.1
theorem sb_X1_following_46 {G : Gx} (hG : GW G) {M : Mx} (hl : (mL M).stackTraces = false) {w0 : Wd} {d : Nat} (K : Cx (G, true, M, 3, w0) cX1_following "IntervalTree" (d + 1)) (hr : (mH M).sig.returnType = some (.object "IntervalTree$Node")) (hnm : (mH M).name = yX1_following.name) (hxt : ∀ x ∈ (mC M).exceptionTable.toList, False) (hnd : (mS M).methodNamed? yX1_following = some (mM M)) : ∀ (n : Nat), ∀ (x1 : Option Nat) (x2 : Option Nat) (w : Wd), Jf (G, true, M, 3, w0) (rrV G (pR 4)) (b_X1_following_46 d n x1 x2 w) w 46 [some (aR 1 (some 8)), some (aR 2 x1), some (aR 4 x2)] [] := by
  intro n
  induction n with
  | zero => intros; exact j_none
  | succ n ih =>
    intro x1 x2 w
    refine j_aload_n K dX1_following_46 rfl ?_
    refine j_ifnull 88 K dX1_following_47 (by decide) (fun _ => ?_) (fun a3 ha3 => ?_)
    · refine j_aload_n K dX1_following_88 rfl ?_
      exact j_aret K hr (Or.inl ⟨_, rfl⟩) dX1_following_89
    · refine j_aload_n K dX1_following_50 rfl ?_
      refine j_nn (fun a4 ha4 => ?_)
      refine j_getR (k := 2) K dX1_following_51 rfl rfl rfl q162 rfl rfl (by decide) ha4 ?_
      refine j_aload_n K dX1_following_54 rfl ?_
      refine j_nn (fun a5 ha5 => ?_)
      refine j_callM (t := 50) K (sim_ACC hG hl d a5 x2 w) dX1_following_55 (by decide) (by decide) q963 ha5 rfl (fun r6 _ => ?_)
      refine j_if_ne 88 K dX1_following_60 (by decide) ?_ ?_
      · refine j_aload_n K dX1_following_88 rfl ?_
        exact j_aret K hr (Or.inl ⟨_, rfl⟩) dX1_following_89
      · refine j_aload_n K dX1_following_63 rfl ?_
        refine j_getR (k := 4) K dX1_following_64 rfl rfl rfl q185 rfl rfl (by decide) rfl ?_
        refine j_aload_n K dX1_following_67 rfl ?_
        refine j_getI (k := 1) K dX1_following_68 rfl rfl rfl q543 rfl rfl ha3 ?_
        refine j_aload_n K dX1_following_71 rfl ?_
        refine j_getI (k := 2) K dX1_following_72 rfl rfl rfl q545 rfl rfl ha3 ?_
        refine j_aload_n K dX1_following_75 rfl ?_
        refine j_getI (k := 0) K dX1_following_76 rfl rfl rfl q541 rfl rfl ha3 ?_
        refine j_iconstZ K dX1_following_79 rfl (Or.inr rfl) ?_
        refine j_iadd K dX1_following_80 ?_
        refine j_callS _ K (sim_X1_ceilingIn hG hl d (gR r6.1 8 4) (gI r6.1 a3 1) (gI r6.1 a3 2) ((gI r6.1 a3 0) + 1) r6.1 false false false) dX1_following_81 q406 q407 q93 q408 pm_X1_ceilingIn.2 rfl rfl rfl rfl (fun r7 _ => ?_)
        refine j_astore_n K dX1_following_84 rfl rfl ?_
        refine j_goto 46 K dX1_following_85 (by decide) ?_
        exact ih _ _ _
theorem sb_X1_following_45 {G : Gx} (hG : GW G) {M : Mx} (hl : (mL M).stackTraces = false) {w0 : Wd} {d : Nat} (K : Cx (G, true, M, 3, w0) cX1_following "IntervalTree" (d + 1)) (hr : (mH M).sig.returnType = some (.object "IntervalTree$Node")) (hnm : (mH M).name = yX1_following.name) (hxt : ∀ x ∈ (mC M).exceptionTable.toList, False) (hnd : (mS M).methodNamed? yX1_following = some (mM M)) : ∀ (x1 : Option Nat) (s0 : Option Nat) (w : Wd), Jf (G, true, M, 3, w0) (rrV G (pR 4)) (b_X1_following_45 d x1 s0 w) w 45 [some (aR 1 (some 8)), some (aR 2 x1), none] [aR 4 s0] := by
  intro x1 s0 w
  refine j_astore_n K dX1_following_45 rfl rfl ?_
  exact sb_X1_following_46 hG hl K hr hnm hxt hnd FU _ _ _
theorem sim_X1_following {G : Gx} (hG : GW G) {l : Launch} (hl : l.stackTraces = false) (d : Nat) (p1 : Option Nat) (w : Wd) : Mt G true l yX1_following (ws_ yX1_following cX1_following 3 (some (.object "IntervalTree$Node"))) d (rrV G (pR 4)) [aR 1 (some 8), aR 2 p1] w (f_X1_following d p1 w) := by
  refine Mt.of (own := "IntervalTree") hG hl (by decide +kernel) rfl rfl ?_
  intro M hM hr hnm hxt hnd K
  subst hM
  cases d with
  | zero => exact j_none
  | succ d =>
    refine j_aload_n K dX1_following_0 rfl ?_
    refine j_nn (fun a1 ha1 => ?_)
    refine j_getZ (k := 1) K dX1_following_1 rfl rfl rfl q161 rfl rfl rfl ha1 ?_
    refine j_if_eq 31 K dX1_following_4 (by decide) ?_ ?_
    · refine j_aload_n K dX1_following_31 rfl ?_
      refine j_getR (k := 4) K dX1_following_32 rfl rfl rfl q185 rfl rfl (by decide) rfl ?_
      refine j_sipush (x := (-1000)) K dX1_following_35 (by decide +kernel) ?_
      refine j_ldc_w (x := (-2147483648)) K dX1_following_38 q405 ?_
      refine j_iconst (x := (-1)) K dX1_following_41 rfl ?_
      refine j_callS _ K (sim_X1_ceilingIn hG hl d (gR w 8 4) (-1000) (-2147483648) (-1) w false false false) dX1_following_42 q406 q407 q93 q408 pm_X1_ceilingIn.2 rfl rfl rfl rfl (fun r2 _ => ?_)
      exact j_wk (sb_X1_following_45 hG hl K hr hnm hxt hnd _ _ _) ⟨rfl, rfl, trivial⟩
    · refine j_aload_n K dX1_following_7 rfl ?_
      refine j_getR (k := 4) K dX1_following_8 rfl rfl rfl q185 rfl rfl (by decide) rfl ?_
      refine j_aload_n K dX1_following_11 rfl ?_
      refine j_getI (k := 3) K dX1_following_12 rfl rfl rfl q163 rfl rfl ha1 ?_
      refine j_aload_n K dX1_following_15 rfl ?_
      refine j_getI (k := 4) K dX1_following_16 rfl rfl rfl q164 rfl rfl ha1 ?_
      refine j_aload_n K dX1_following_19 rfl ?_
      refine j_getI (k := 5) K dX1_following_20 rfl rfl rfl q165 rfl rfl ha1 ?_
      refine j_iconstZ K dX1_following_23 rfl (Or.inr rfl) ?_
      refine j_iadd K dX1_following_24 ?_
      refine j_callS _ K (sim_X1_ceilingIn hG hl d (gR w 8 4) (gI w a1 3) (gI w a1 4) ((gI w a1 5) + 1) w false false false) dX1_following_25 q406 q407 q93 q408 pm_X1_ceilingIn.2 rfl rfl rfl rfl (fun r3 _ => ?_)
      refine j_goto 45 K dX1_following_28 (by decide) ?_
      exact j_wk (sb_X1_following_45 hG hl K hr hnm hxt hnd _ _ _) ⟨rfl, rfl, trivial⟩

theorem pm_X1_open : yX1_open.cls = RX1 ∧ yX1_open.cls ≠ "java/lang/invoke/MethodHandle" ∧ yX1_open.cls ≠ "java/lang/invoke/VarHandle" ∧ (parseMethodDescriptor yX1_open.desc).map (fun d => d.parameters.length) = some 2 := by decide +kernel
def b_X1_open_22 (d : Nat) (x1 : Int32) (x2 : Int32) (s0 : Int32) (w : Wd) : Option (Wd × (Int32 ⊕ Nat)) :=
  bX (f_X1_check d s0 w) fun wr2 r2 =>
  if ib x1 4 = true then
    (gR wr2 12 x1.toNatClampNeg).bind fun a4 =>
    if ib x2 8 = true then
      (f_X1_following d (gR wr2 12 x1.toNatClampNeg) (sR (sI (sI wr2 a4 0 1) a4 1 0) a4 2 (gR (sI (sI wr2 a4 0 1) a4 1 0) 10 x2.toNatClampNeg))).bind fun r6 =>
      (f_X1_idOf d r6.2 r6.1).bind fun r7 =>
      some (r7.1, .inl r7.2)
    else none
  else none
def b_X1_open_21 (d : Nat) (x1 : Int32) (x2 : Int32) (w : Wd) : Option (Wd × (Int32 ⊕ Nat)) :=
  b_X1_open_22 d x1 x2 0 w
def f_X1_open (d : Nat) (p1 : Int32) (p2 : Int32) (w : Wd) : Option (Wd × (Int32 ⊕ Nat)) :=
  match d with
  | 0 => none
  | d + 1 =>
    (f_X1_isBetween d p1 0 3 w).bind fun r1 =>
    if r1.2 = 0 then
      b_X1_open_21 d p1 p2 r1.1
    else
      (f_X1_isFilter d p2 r1.1).bind fun r2 =>
      if r2.2 = 0 then
        b_X1_open_21 d p1 p2 r2.1
      else
        b_X1_open_22 d p1 p2 1 r2.1
theorem sb_X1_open_22 {G : Gx} (hG : GW G) {M : Mx} (hl : (mL M).stackTraces = false) {w0 : Wd} {d : Nat} (K : Cx (G, true, M, 4, w0) cX1_open "IntervalTree" (d + 1)) (hr : (mH M).sig.returnType = some .int) (hnm : (mH M).name = yX1_open.name) (hxt : ∀ x ∈ (mC M).exceptionTable.toList, False) (hnd : (mS M).methodNamed? yX1_open = some (mM M)) : ∀ (x1 : Int32) (x2 : Int32) (s0 : Int32) (w : Wd) (fx1 : Bool) (fx2 : Bool), Jf (G, true, M, 4, w0) (rrX G pI) (b_X1_open_22 d x1 x2 s0 w) w 22 [some (aR 1 (some 8)), some (aB fx1 x1), some (aB fx2 x2), none] [aB true s0] := by
  intro x1 x2 s0 w fx1 fx2
  refine j_callSX _ K hxt (sim_X1_check hG hl d s0 w) dX1_open_22 q447 q448 q93 q449 pm_X1_check.2 rfl rfl rfl rfl (fun wr2 r2 _ => ?_)
  refine j_aload_n K dX1_open_25 rfl ?_
  refine j_getA (k := 3) 3 K dX1_open_26 rfl rfl rfl q184 rfl rfl (by decide) rfl rfl rfl ?_
  refine j_iload_n K dX1_open_29 rfl ?_
  refine j_ib (fun hi3 => ?_)
  refine j_aal K dX1_open_30 rfl (fun _ => rfl) (by decide) rfl rfl (fxLen 3 rfl rfl) hi3 ?_
  refine j_astore_n K dX1_open_31 rfl rfl ?_
  refine j_aload_n K dX1_open_32 rfl ?_
  refine j_iconstZ K dX1_open_33 rfl (Or.inr rfl) ?_
  refine j_nn (fun a4 ha4 => ?_)
  refine j_putZ (k := 0) K dX1_open_34 rfl rfl q160 rfl (Or.inl rfl) rfl rfl ha4 ?_
  refine j_aload_n K dX1_open_37 rfl ?_
  refine j_iconstZ K dX1_open_38 rfl (Or.inl rfl) ?_
  refine j_putZ (k := 1) K dX1_open_39 rfl rfl q161 rfl (Or.inl rfl) rfl rfl ha4 ?_
  refine j_aload_n K dX1_open_42 rfl ?_
  refine j_aload_n K dX1_open_43 rfl ?_
  refine j_getA (k := 1) 1 K dX1_open_44 rfl rfl rfl q180 rfl rfl (by decide) rfl rfl rfl ?_
  refine j_iload_n K dX1_open_47 rfl ?_
  refine j_ib (fun hi5 => ?_)
  refine j_aal K dX1_open_48 rfl (fun _ => rfl) (by decide) rfl rfl (fxLen 1 rfl rfl) hi5 ?_
  refine j_putR (k := 2) K dX1_open_49 rfl rfl q162 rfl (Or.inl rfl) rfl (Or.inl ⟨_, rfl⟩) rfl (by decide) rfl (fun _ => by decide +kernel) ha4 ?_
  refine j_aload_n K dX1_open_52 rfl ?_
  refine j_aload_n K dX1_open_53 rfl ?_
  refine j_callV _ K (sim_X1_following hG hl d (gR wr2 12 x1.toNatClampNeg) (sR (sI (sI wr2 a4 0 1) a4 1 0) a4 2 (gR (sI (sI wr2 a4 0 1) a4 1 0) 10 x2.toNatClampNeg))) dX1_open_54 rfl rfl q1202 q1204 qs48 q93 q1205 pm_X1_following rfl rfl rfl rfl rfl (fun r6 _ => ?_)
  refine j_callS _ K (sim_X1_idOf hG hl d r6.2 r6.1) dX1_open_57 q398 q399 q93 q400 pm_X1_idOf.2 rfl rfl rfl rfl (fun r7 _ => ?_)
  exact j_iretX K hr dX1_open_60
theorem sb_X1_open_21 {G : Gx} (hG : GW G) {M : Mx} (hl : (mL M).stackTraces = false) {w0 : Wd} {d : Nat} (K : Cx (G, true, M, 4, w0) cX1_open "IntervalTree" (d + 1)) (hr : (mH M).sig.returnType = some .int) (hnm : (mH M).name = yX1_open.name) (hxt : ∀ x ∈ (mC M).exceptionTable.toList, False) (hnd : (mS M).methodNamed? yX1_open = some (mM M)) : ∀ (x1 : Int32) (x2 : Int32) (w : Wd) (fx1 : Bool) (fx2 : Bool), Jf (G, true, M, 4, w0) (rrX G pI) (b_X1_open_21 d x1 x2 w) w 21 [some (aR 1 (some 8)), some (aB fx1 x1), some (aB fx2 x2), none] [] := by
  intro x1 x2 w fx1 fx2
  refine j_iconstZ K dX1_open_21 rfl (Or.inl rfl) ?_
  exact j_wk (sb_X1_open_22 hG hl K hr hnm hxt hnd _ _ _ _ _ _) ⟨rfl, rfl, rfl, trivial⟩
theorem sim_X1_open {G : Gx} (hG : GW G) {l : Launch} (hl : l.stackTraces = false) (d : Nat) (p1 : Int32) (p2 : Int32) (w : Wd) (fp1 : Bool) (fp2 : Bool) : Mt G true l yX1_open (ws_ yX1_open cX1_open 4 (some .int)) d (rrX G pI) [aR 1 (some 8), aB fp1 p1, aB fp2 p2] w (f_X1_open d p1 p2 w) := by
  refine Mt.of (own := "IntervalTree") hG hl (by decide +kernel) rfl rfl ?_
  intro M hM hr hnm hxt hnd K
  subst hM
  cases d with
  | zero => exact j_none
  | succ d =>
    refine j_iload_n K dX1_open_0 rfl ?_
    refine j_iconstZ K dX1_open_1 rfl (Or.inl rfl) ?_
    refine j_iconst (x := 3) K dX1_open_2 rfl ?_
    refine j_callS _ K (sim_X1_isBetween hG hl d p1 0 3 w fp1 true false) dX1_open_3 q444 q445 q93 q446 pm_X1_isBetween.2 rfl rfl rfl rfl (fun r1 _ => ?_)
    refine j_if_eq 21 K dX1_open_6 (by decide) ?_ ?_
    · exact j_wk (sb_X1_open_21 hG hl K hr hnm hxt hnd _ _ _ _ _) ⟨rfl, rfl, rfl, trivial⟩
    · refine j_aload_n K dX1_open_9 rfl ?_
      refine j_iload_n K dX1_open_10 rfl ?_
      refine j_callV _ K (sim_X1_isFilter hG hl d p2 r1.1 fp2) dX1_open_11 rfl rfl q953 q955 qs34 q93 q956 pm_X1_isFilter rfl rfl rfl rfl rfl (fun r2 _ => ?_)
      refine j_if_eq 21 K dX1_open_14 (by decide) ?_ ?_
      · exact j_wk (sb_X1_open_21 hG hl K hr hnm hxt hnd _ _ _ _ _) ⟨rfl, rfl, rfl, trivial⟩
      · refine j_iconstZ K dX1_open_17 rfl (Or.inr rfl) ?_
        refine j_goto 22 K dX1_open_18 (by decide) ?_
        exact j_wk (sb_X1_open_22 hG hl K hr hnm hxt hnd _ _ _ _ _ _) ⟨rfl, rfl, rfl, trivial⟩

theorem pm_X1_cursor : yX1_cursor.cls = RX1 ∧ yX1_cursor.cls ≠ "java/lang/invoke/MethodHandle" ∧ yX1_cursor.cls ≠ "java/lang/invoke/VarHandle" ∧ (parseMethodDescriptor yX1_cursor.desc).map (fun d => d.parameters.length) = some 1 := by decide +kernel
def f_X1_cursor (d : Nat) (p1 : Int32) (w : Wd) : Option (Wd × (Option Nat ⊕ Nat)) :=
  match d with
  | 0 => none
  | d + 1 =>
    (f_X1_isBetween d p1 0 3 w).bind fun r1 =>
    bX (f_X1_check d r1.2 r1.1) fun wr2 r2 =>
    if ib p1 4 = true then
      (gR wr2 12 p1.toNatClampNeg).bind fun a4 =>
      if (gI wr2 a4 0) = 0 then
        if 8 ≤ d then
          if room wr2 6 = true then
            some (nw wr2 41 0 6, .inr (gN wr2))
          else none
        else none
      else
        some (wr2, .inl (gR wr2 12 p1.toNatClampNeg))
    else none
theorem sim_X1_cursor {G : Gx} (hG : GW G) {l : Launch} (hl : l.stackTraces = false) (d : Nat) (p1 : Int32) (w : Wd) (fp1 : Bool) : Mt G true l yX1_cursor (ws_ yX1_cursor cX1_cursor 2 (some (.object "IntervalTree$Cursor"))) d (rrX G (pR 2)) [aR 1 (some 8), aB fp1 p1] w (f_X1_cursor d p1 w) := by
  refine Mt.of (own := "IntervalTree") hG hl (by decide +kernel) rfl rfl ?_
  intro M hM hr hnm hxt hnd K
  subst hM
  cases d with
  | zero => exact j_none
  | succ d =>
    refine j_iload_n K dX1_cursor_0 rfl ?_
    refine j_iconstZ K dX1_cursor_1 rfl (Or.inl rfl) ?_
    refine j_iconst (x := 3) K dX1_cursor_2 rfl ?_
    refine j_callS _ K (sim_X1_isBetween hG hl d p1 0 3 w fp1 true false) dX1_cursor_3 q444 q445 q93 q446 pm_X1_isBetween.2 rfl rfl rfl rfl (fun r1 _ => ?_)
    refine j_callSX _ K hxt (sim_X1_check hG hl d r1.2 r1.1) dX1_cursor_6 q447 q448 q93 q449 pm_X1_check.2 rfl rfl rfl rfl (fun wr2 r2 _ => ?_)
    refine j_aload_n K dX1_cursor_9 rfl ?_
    refine j_getA (k := 3) 3 K dX1_cursor_10 rfl rfl rfl q184 rfl rfl (by decide) rfl rfl rfl ?_
    refine j_iload_n K dX1_cursor_13 rfl ?_
    refine j_ib (fun hi3 => ?_)
    refine j_aal K dX1_cursor_14 rfl (fun _ => rfl) (by decide) rfl rfl (fxLen 3 rfl rfl) hi3 ?_
    refine j_nn (fun a4 ha4 => ?_)
    refine j_getZ (k := 0) K dX1_cursor_15 rfl rfl rfl q160 rfl rfl rfl ha4 ?_
    refine j_if_ne 32 K dX1_cursor_18 (by decide) ?_ ?_
    · refine j_aload_n K dX1_cursor_32 rfl ?_
      refine j_getA (k := 3) 3 K dX1_cursor_33 rfl rfl rfl q184 rfl rfl (by decide) rfl rfl rfl ?_
      refine j_iload_n K dX1_cursor_36 rfl ?_
      refine j_aal K dX1_cursor_37 rfl (fun _ => rfl) (by decide) rfl rfl (fxLen 3 rfl rfl) hi3 ?_
      exact j_aretX K hr (Or.inl ⟨_, rfl⟩) dX1_cursor_38
    · refine j_dp (fun h85 => ?_)
      refine j_rm (fun hr6 => ?_)
      refine j_mkW (kd := 41) K rfl (by decide +kernel) (by decide +kernel) rfl q520 q100 q1217 at_X1_41_1 at_X1_41_2 at_X1_41_3 rfl dX1_cursor_21 dX1_cursor_24 dX1_cursor_25 dX1_cursor_28 (Nat.le_succ_of_le h85) hr6 rfl ?_
      refine j_athrow K dX1_cursor_31 ?_
      exact j_outN K hxt rfl

theorem pm_X1_hasNext : yX1_hasNext.cls = RX1 ∧ yX1_hasNext.cls ≠ "java/lang/invoke/MethodHandle" ∧ yX1_hasNext.cls ≠ "java/lang/invoke/VarHandle" ∧ (parseMethodDescriptor yX1_hasNext.desc).map (fun d => d.parameters.length) = some 1 := by decide +kernel
def f_X1_hasNext (d : Nat) (p1 : Int32) (w : Wd) : Option (Wd × (Int32 ⊕ Nat)) :=
  match d with
  | 0 => none
  | d + 1 =>
    bX (f_X1_cursor d p1 w) fun wr1 r1 =>
    (f_X1_following d r1 wr1).bind fun r2 =>
    (r2.2).elim
      (some (r2.1, .inl 0))
      fun a3 =>
      some (r2.1, .inl 1)
theorem sim_X1_hasNext {G : Gx} (hG : GW G) {l : Launch} (hl : l.stackTraces = false) (d : Nat) (p1 : Int32) (w : Wd) (fp1 : Bool) : Mt G true l yX1_hasNext (ws_ yX1_hasNext cX1_hasNext 2 (some .boolean)) d (rrX G pZ) [aR 1 (some 8), aB fp1 p1] w (f_X1_hasNext d p1 w) := by
  refine Mt.of (own := "IntervalTree") hG hl (by decide +kernel) rfl rfl ?_
  intro M hM hr hnm hxt hnd K
  subst hM
  cases d with
  | zero => exact j_none
  | succ d =>
    refine j_aload_n K dX1_hasNext_0 rfl ?_
    refine j_aload_n K dX1_hasNext_1 rfl ?_
    refine j_iload_n K dX1_hasNext_2 rfl ?_
    refine j_callVX _ K hxt (sim_X1_cursor hG hl d p1 w fp1) dX1_hasNext_3 rfl rfl q1213 q1215 qs49 q93 q1216 pm_X1_cursor rfl rfl rfl rfl rfl (fun wr1 r1 _ => ?_)
    refine j_callV _ K (sim_X1_following hG hl d r1 wr1) dX1_hasNext_6 rfl rfl q1202 q1204 qs48 q93 q1205 pm_X1_following rfl rfl rfl rfl rfl (fun r2 _ => ?_)
    refine j_ifnull 16 K dX1_hasNext_9 (by decide) (fun _ => ?_) (fun a3 ha3 => ?_)
    · refine j_iconstZ K dX1_hasNext_16 rfl (Or.inl rfl) ?_
      exact j_zretX K hr dX1_hasNext_17
    · refine j_iconstZ K dX1_hasNext_12 rfl (Or.inr rfl) ?_
      refine j_goto 17 K dX1_hasNext_13 (by decide) ?_
      exact j_zretX K hr dX1_hasNext_17

theorem pm_X1_next : yX1_next.cls = RX1 ∧ yX1_next.cls ≠ "java/lang/invoke/MethodHandle" ∧ yX1_next.cls ≠ "java/lang/invoke/VarHandle" ∧ (parseMethodDescriptor yX1_next.desc).map (fun d => d.parameters.length) = some 1 := by decide +kernel
def f_X1_next (d : Nat) (p1 : Int32) (w : Wd) : Option (Wd × (Int32 ⊕ Nat)) :=
  match d with
  | 0 => none
  | d + 1 =>
    bX (f_X1_cursor d p1 w) fun wr1 r1 =>
    (f_X1_following d r1 wr1).bind fun r2 =>
    (r2.2).elim
      (if 8 ≤ d then
        if room r2.1 6 = true then
          some (nw r2.1 42 0 6, .inr (gN r2.1))
        else none
      else none)
      fun a5 =>
      (r1).bind fun a6 =>
      some (sI (sI (sI (sI r2.1 a6 1 1) a6 3 (gI (sI r2.1 a6 1 1) a5 1)) a6 4 (gI (sI (sI r2.1 a6 1 1) a6 3 (gI (sI r2.1 a6 1 1) a5 1)) a5 2)) a6 5 (gI (sI (sI (sI r2.1 a6 1 1) a6 3 (gI (sI r2.1 a6 1 1) a5 1)) a6 4 (gI (sI (sI r2.1 a6 1 1) a6 3 (gI (sI r2.1 a6 1 1) a5 1)) a5 2)) a5 0), .inl (gI (sI (sI (sI (sI r2.1 a6 1 1) a6 3 (gI (sI r2.1 a6 1 1) a5 1)) a6 4 (gI (sI (sI r2.1 a6 1 1) a6 3 (gI (sI r2.1 a6 1 1) a5 1)) a5 2)) a6 5 (gI (sI (sI (sI r2.1 a6 1 1) a6 3 (gI (sI r2.1 a6 1 1) a5 1)) a6 4 (gI (sI (sI r2.1 a6 1 1) a6 3 (gI (sI r2.1 a6 1 1) a5 1)) a5 2)) a5 0)) a5 0))
theorem sim_X1_next {G : Gx} (hG : GW G) {l : Launch} (hl : l.stackTraces = false) (d : Nat) (p1 : Int32) (w : Wd) (fp1 : Bool) : Mt G true l yX1_next (ws_ yX1_next cX1_next 4 (some .int)) d (rrX G pI) [aR 1 (some 8), aB fp1 p1] w (f_X1_next d p1 w) := by
  refine Mt.of (own := "IntervalTree") hG hl (by decide +kernel) rfl rfl ?_
  intro M hM hr hnm hxt hnd K
  subst hM
  cases d with
  | zero => exact j_none
  | succ d =>
    refine j_aload_n K dX1_next_0 rfl ?_
    refine j_iload_n K dX1_next_1 rfl ?_
    refine j_callVX _ K hxt (sim_X1_cursor hG hl d p1 w fp1) dX1_next_2 rfl rfl q1213 q1215 qs49 q93 q1216 pm_X1_cursor rfl rfl rfl rfl rfl (fun wr1 r1 _ => ?_)
    refine j_astore_n K dX1_next_5 rfl rfl ?_
    refine j_aload_n K dX1_next_6 rfl ?_
    refine j_aload_n K dX1_next_7 rfl ?_
    refine j_callV _ K (sim_X1_following hG hl d r1 wr1) dX1_next_8 rfl rfl q1202 q1204 qs48 q93 q1205 pm_X1_following rfl rfl rfl rfl rfl (fun r2 _ => ?_)
    refine j_astore_n K dX1_next_11 rfl rfl ?_
    refine j_aload_n K dX1_next_12 rfl ?_
    refine j_ifnonnull 27 K dX1_next_13 (by decide) (fun a5 ha5 => ?_) (fun _ => ?_)
    · refine j_aload_n K dX1_next_27 rfl ?_
      refine j_iconstZ K dX1_next_28 rfl (Or.inr rfl) ?_
      refine j_nn (fun a6 ha6 => ?_)
      refine j_putZ (k := 1) K dX1_next_29 rfl rfl q161 rfl (Or.inl rfl) rfl rfl ha6 ?_
      refine j_aload_n K dX1_next_32 rfl ?_
      refine j_aload_n K dX1_next_33 rfl ?_
      refine j_getI (k := 1) K dX1_next_34 rfl rfl rfl q543 rfl rfl ha5 ?_
      refine j_putI (k := 3) K dX1_next_37 rfl rfl q163 rfl (Or.inl rfl) rfl rfl rfl ha6 ?_
      refine j_aload_n K dX1_next_40 rfl ?_
      refine j_aload_n K dX1_next_41 rfl ?_
      refine j_getI (k := 2) K dX1_next_42 rfl rfl rfl q545 rfl rfl ha5 ?_
      refine j_putI (k := 4) K dX1_next_45 rfl rfl q164 rfl (Or.inl rfl) rfl rfl rfl ha6 ?_
      refine j_aload_n K dX1_next_48 rfl ?_
      refine j_aload_n K dX1_next_49 rfl ?_
      refine j_getI (k := 0) K dX1_next_50 rfl rfl rfl q541 rfl rfl ha5 ?_
      refine j_putI (k := 5) K dX1_next_53 rfl rfl q165 rfl (Or.inl rfl) rfl rfl rfl ha6 ?_
      refine j_aload_n K dX1_next_56 rfl ?_
      refine j_getI (k := 0) K dX1_next_57 rfl rfl rfl q541 rfl rfl ha5 ?_
      exact j_iretX K hr dX1_next_60
    · refine j_dp (fun h83 => ?_)
      refine j_rm (fun hr4 => ?_)
      refine j_mkWN (kd := 42) K rfl (by decide +kernel) q643 q103 q1225 at_X1_42_1 at_X1_42_2 at_X1_42_3 rfl dX1_next_16 dX1_next_19 dX1_next_20 dX1_next_23 (Nat.le_succ_of_le h83) hr4 rfl ?_
      refine j_athrow K dX1_next_26 ?_
      exact j_outN K hxt rfl

theorem pm_X1_removeCurrent : yX1_removeCurrent.cls = RX1 ∧ yX1_removeCurrent.cls ≠ "java/lang/invoke/MethodHandle" ∧ yX1_removeCurrent.cls ≠ "java/lang/invoke/VarHandle" ∧ (parseMethodDescriptor yX1_removeCurrent.desc).map (fun d => d.parameters.length) = some 1 := by decide +kernel
def b_X1_removeCurrent_40 (d : Nat) (w : Wd) : Option (Wd × (Int32 ⊕ Nat)) :=
  if 8 ≤ d then
    if room w 6 = true then
      some (nw w 41 0 6, .inr (gN w))
    else none
  else none
def f_X1_removeCurrent (d : Nat) (p1 : Int32) (w : Wd) : Option (Wd × (Int32 ⊕ Nat)) :=
  match d with
  | 0 => none
  | d + 1 =>
    bX (f_X1_cursor d p1 w) fun wr1 r1 =>
    (r1).bind fun a2 =>
    if (gI wr1 a2 1) = 0 then
      b_X1_removeCurrent_40 d wr1
    else
      if ib (gI wr1 a2 5) 500 = true then
        (gR wr1 9 (gI wr1 a2 5).toNatClampNeg).elim
          (b_X1_removeCurrent_40 d wr1)
          fun a6 =>
          if (gI wr1 a6 6) = 0 then
            (f_X1_removeNode d (gR wr1 9 (gI wr1 a2 5).toNatClampNeg) wr1).bind fun r7 =>
            some (r7.1, .inl r7.2)
          else
            b_X1_removeCurrent_40 d wr1
      else none
theorem sb_X1_removeCurrent_40 {G : Gx} (hG : GW G) {M : Mx} (hl : (mL M).stackTraces = false) {w0 : Wd} {d : Nat} (K : Cx (G, true, M, 3, w0) cX1_removeCurrent "IntervalTree" (d + 1)) (hr : (mH M).sig.returnType = some .int) (hnm : (mH M).name = yX1_removeCurrent.name) (hxt : ∀ x ∈ (mC M).exceptionTable.toList, False) (hnd : (mS M).methodNamed? yX1_removeCurrent = some (mM M)) : ∀ (w : Wd), Jf (G, true, M, 3, w0) (rrX G pI) (b_X1_removeCurrent_40 d w) w 40 [none, none, none] [] := by
  intro w
  refine j_dp (fun h83 => ?_)
  refine j_rm (fun hr4 => ?_)
  refine j_mkW (kd := 41) K rfl (by decide +kernel) (by decide +kernel) rfl q520 q100 q1233 at_X1_41_1 at_X1_41_2 at_X1_41_3 rfl dX1_removeCurrent_40 dX1_removeCurrent_43 dX1_removeCurrent_44 dX1_removeCurrent_47 (Nat.le_succ_of_le h83) hr4 rfl ?_
  refine j_athrow K dX1_removeCurrent_50 ?_
  exact j_outN K hxt rfl
theorem sim_X1_removeCurrent {G : Gx} (hG : GW G) {l : Launch} (hl : l.stackTraces = false) (d : Nat) (p1 : Int32) (w : Wd) (fp1 : Bool) : Mt G true l yX1_removeCurrent (ws_ yX1_removeCurrent cX1_removeCurrent 3 (some .int)) d (rrX G pI) [aR 1 (some 8), aB fp1 p1] w (f_X1_removeCurrent d p1 w) := by
  refine Mt.of (own := "IntervalTree") hG hl (by decide +kernel) rfl rfl ?_
  intro M hM hr hnm hxt hnd K
  subst hM
  cases d with
  | zero => exact j_none
  | succ d =>
    refine j_aload_n K dX1_removeCurrent_0 rfl ?_
    refine j_iload_n K dX1_removeCurrent_1 rfl ?_
    refine j_callVX _ K hxt (sim_X1_cursor hG hl d p1 w fp1) dX1_removeCurrent_2 rfl rfl q1213 q1215 qs49 q93 q1216 pm_X1_cursor rfl rfl rfl rfl rfl (fun wr1 r1 _ => ?_)
    refine j_astore_n K dX1_removeCurrent_5 rfl rfl ?_
    refine j_aload_n K dX1_removeCurrent_6 rfl ?_
    refine j_nn (fun a2 ha2 => ?_)
    refine j_getZ (k := 1) K dX1_removeCurrent_7 rfl rfl rfl q161 rfl rfl rfl ha2 ?_
    refine j_if_eq 40 K dX1_removeCurrent_10 (by decide) ?_ ?_
    · exact j_wk (sb_X1_removeCurrent_40 hG hl K hr hnm hxt hnd _) trivial
    · refine j_aload_n K dX1_removeCurrent_13 rfl ?_
      refine j_getA (k := 0) 0 K dX1_removeCurrent_14 rfl rfl rfl q179 rfl rfl (by decide) rfl rfl rfl ?_
      refine j_aload_n K dX1_removeCurrent_17 rfl ?_
      refine j_getI (k := 5) K dX1_removeCurrent_18 rfl rfl rfl q165 rfl rfl ha2 ?_
      refine j_ib (fun hi5 => ?_)
      refine j_aal K dX1_removeCurrent_21 rfl (fun _ => rfl) (by decide) rfl rfl (fxLen 0 rfl rfl) hi5 ?_
      refine j_ifnull 40 K dX1_removeCurrent_22 (by decide) (fun _ => ?_) (fun a6 ha6 => ?_)
      · exact j_wk (sb_X1_removeCurrent_40 hG hl K hr hnm hxt hnd _) trivial
      · refine j_aload_n K dX1_removeCurrent_25 rfl ?_
        refine j_getA (k := 0) 0 K dX1_removeCurrent_26 rfl rfl rfl q179 rfl rfl (by decide) rfl rfl rfl ?_
        refine j_aload_n K dX1_removeCurrent_29 rfl ?_
        refine j_getI (k := 5) K dX1_removeCurrent_30 rfl rfl rfl q165 rfl rfl ha2 ?_
        refine j_aal K dX1_removeCurrent_33 rfl (fun _ => rfl) (by decide) rfl rfl (fxLen 0 rfl rfl) hi5 ?_
        refine j_getZ (k := 6) K dX1_removeCurrent_34 rfl rfl rfl q552 rfl rfl rfl ha6 ?_
        refine j_if_eq 51 K dX1_removeCurrent_37 (by decide) ?_ ?_
        · refine j_aload_n K dX1_removeCurrent_51 rfl ?_
          refine j_aload_n K dX1_removeCurrent_52 rfl ?_
          refine j_getA (k := 0) 0 K dX1_removeCurrent_53 rfl rfl rfl q179 rfl rfl (by decide) rfl rfl rfl ?_
          refine j_aload_n K dX1_removeCurrent_56 rfl ?_
          refine j_getI (k := 5) K dX1_removeCurrent_57 rfl rfl rfl q165 rfl rfl ha2 ?_
          refine j_aal K dX1_removeCurrent_60 rfl (fun _ => rfl) (by decide) rfl rfl (fxLen 0 rfl rfl) hi5 ?_
          refine j_callV _ K (sim_X1_removeNode hG hl d (gR wr1 9 (gI wr1 a2 5).toNatClampNeg) wr1) dX1_removeCurrent_61 rfl rfl q660 q662 qs21 q93 q663 pm_X1_removeNode rfl rfl rfl rfl rfl (fun r7 _ => ?_)
          exact j_iretX K hr dX1_removeCurrent_64
        · exact j_wk (sb_X1_removeCurrent_40 hG hl K hr hnm hxt hnd _) trivial

theorem pm_X1_loadNode : yX1_loadNode.cls = RX1 ∧ yX1_loadNode.cls ≠ "java/lang/invoke/MethodHandle" ∧ yX1_loadNode.cls ≠ "java/lang/invoke/VarHandle" ∧ (parseMethodDescriptor yX1_loadNode.desc).map (fun d => d.parameters.length) = some 2 := by decide +kernel
def fB_X1_loadNode (d : Nat) (g_X1_loadNode : Int32 → Option Nat → Wd → Option (Wd × Option Nat)) (p1 : Int32) (p2 : Option Nat) (w : Wd) : Option (Wd × Option Nat) :=
  if 0 ≤ p1 then
    (nwB w 4 0 15).bind fun w1 =>
    if ib p1 500 = true then
      (f_X4_init d (gN w) p1 (gI w1 23 p1.toNatClampNeg) (gI w1 24 p1.toNatClampNeg) (gI w1 25 p1.toNatClampNeg) w1).bind fun r3 =>
      (g_X1_loadNode (gI (sI (sI (sR r3.1 (gN w) 7 p2) (gN w) 5 (gI (sR r3.1 (gN w) 7 p2) 28 p1.toNatClampNeg)) (gN w) 6 (gI (sI (sR r3.1 (gN w) 7 p2) (gN w) 5 (gI (sR r3.1 (gN w) 7 p2) 28 p1.toNatClampNeg)) 29 p1.toNatClampNeg)) 26 p1.toNatClampNeg) (some (gN w)) (sI (sI (sR r3.1 (gN w) 7 p2) (gN w) 5 (gI (sR r3.1 (gN w) 7 p2) 28 p1.toNatClampNeg)) (gN w) 6 (gI (sI (sR r3.1 (gN w) 7 p2) (gN w) 5 (gI (sR r3.1 (gN w) 7 p2) 28 p1.toNatClampNeg)) 29 p1.toNatClampNeg))).bind fun r4 =>
      (g_X1_loadNode (gI (sR r4.1 (gN w) 8 r4.2) 27 p1.toNatClampNeg) (some (gN w)) (sR r4.1 (gN w) 8 r4.2)).bind fun r5 =>
      (f_X4_pull d (gN w) (sR r5.1 (gN w) 9 r5.2)).bind fun r6 =>
      if (gI (sI (sR r6.1 9 p1.toNatClampNeg (some (gN w))) 8 6 ((gI (sR r6.1 9 p1.toNatClampNeg (some (gN w))) 8 6) + 1)) (gN w) 6) = 0 then
        some (sI (sI (sR r6.1 9 p1.toNatClampNeg (some (gN w))) 8 6 ((gI (sR r6.1 9 p1.toNatClampNeg (some (gN w))) 8 6) + 1)) 8 7 ((gI (sI (sR r6.1 9 p1.toNatClampNeg (some (gN w))) 8 6 ((gI (sR r6.1 9 p1.toNatClampNeg (some (gN w))) 8 6) + 1)) 8 7) + 0), (some (gN w)))
      else
        some (sI (sI (sR r6.1 9 p1.toNatClampNeg (some (gN w))) 8 6 ((gI (sR r6.1 9 p1.toNatClampNeg (some (gN w))) 8 6) + 1)) 8 7 ((gI (sI (sR r6.1 9 p1.toNatClampNeg (some (gN w))) 8 6 ((gI (sR r6.1 9 p1.toNatClampNeg (some (gN w))) 8 6) + 1)) 8 7) + 1), (some (gN w)))
    else none
  else
    some (w, none)
theorem simB_X1_loadNode {G : Gx} (hG : GW G) {l : Launch} (hl : l.stackTraces = false) (d : Nat) {g_X1_loadNode : Int32 → Option Nat → Wd → Option (Wd × Option Nat)} (hg_X1_loadNode : ∀ (p1 : Int32) (p2 : Option Nat) (w : Wd) (fp1 : Bool), Mt G true l yX1_loadNode (ws_ yX1_loadNode cX1_loadNode 4 (some (.object "IntervalTree$Node"))) d (rrV G (pR 4)) [aR 1 (some 8), aB fp1 p1, aR 4 p2] w (g_X1_loadNode p1 p2 w)) (p1 : Int32) (p2 : Option Nat) (w : Wd) (fp1 : Bool) : Mt G true l yX1_loadNode (ws_ yX1_loadNode cX1_loadNode 4 (some (.object "IntervalTree$Node"))) (d + 1) (rrV G (pR 4)) [aR 1 (some 8), aB fp1 p1, aR 4 p2] w (fB_X1_loadNode d g_X1_loadNode p1 p2 w) := by
  refine Mt.of (own := "IntervalTree") hG hl (by decide +kernel) rfl rfl ?_
  intro M hM hr hnm hxt hnd K
  subst hM
  refine j_iload_n K dX1_loadNode_0 rfl ?_
  refine j_if_ge 6 K dX1_loadNode_1 (by decide) ?_ ?_
  · refine j_newB (kd := 4) (n := 15) K dX1_loadNode_6 rfl rfl q124 q338 q102 (fun w1 => ?_)
    refine j_dup K dX1_loadNode_9 rfl ?_
    refine j_iload_n K dX1_loadNode_10 rfl ?_
    refine j_aload_n K dX1_loadNode_11 rfl ?_
    refine j_getA (k := 22) 8 K dX1_loadNode_12 rfl rfl rfl q205 rfl rfl (by decide) rfl rfl rfl ?_
    refine j_iload_n K dX1_loadNode_15 rfl ?_
    refine j_ib (fun hi2 => ?_)
    refine j_ial K dX1_loadNode_16 rfl (fxLen 8 rfl rfl) hi2 ?_
    refine j_aload_n K dX1_loadNode_17 rfl ?_
    refine j_getA (k := 23) 9 K dX1_loadNode_18 rfl rfl rfl q206 rfl rfl (by decide) rfl rfl rfl ?_
    refine j_iload_n K dX1_loadNode_21 rfl ?_
    refine j_ial K dX1_loadNode_22 rfl (fxLen 9 rfl rfl) hi2 ?_
    refine j_aload_n K dX1_loadNode_23 rfl ?_
    refine j_getA (k := 24) 10 K dX1_loadNode_24 rfl rfl rfl q207 rfl rfl (by decide) rfl rfl rfl ?_
    refine j_iload_n K dX1_loadNode_27 rfl ?_
    refine j_ial K dX1_loadNode_28 rfl (fxLen 10 rfl rfl) hi2 ?_
    refine j_callI _ K (sim_X4_init hG hl d (gN w) p1 (gI w1 23 p1.toNatClampNeg) (gI w1 24 p1.toNatClampNeg) (gI w1 25 p1.toNatClampNeg) w1 fp1 false false false) dX1_loadNode_29 q536 q537 q102 q538 rfl pm_X4_init.2 rfl rfl rfl rfl rfl (fun r3 _ => ?_)
    refine j_astore_n K dX1_loadNode_32 rfl rfl ?_
    refine j_aload_n K dX1_loadNode_33 rfl ?_
    refine j_aload_n K dX1_loadNode_34 rfl ?_
    refine j_putR (k := 7) K dX1_loadNode_35 rfl rfl q553 rfl (Or.inl rfl) rfl (Or.inl ⟨_, rfl⟩) rfl (by decide) rfl (fun _ => by decide +kernel) rfl ?_
    refine j_aload_n K dX1_loadNode_38 rfl ?_
    refine j_aload_n K dX1_loadNode_39 rfl ?_
    refine j_getA (k := 27) 13 K dX1_loadNode_40 rfl rfl rfl q210 rfl rfl (by decide) rfl rfl rfl ?_
    refine j_iload_n K dX1_loadNode_43 rfl ?_
    refine j_zal K dX1_loadNode_44 rfl (fxLen 13 rfl rfl) hi2 ?_
    refine j_putZ (k := 5) K dX1_loadNode_45 rfl rfl q550 rfl (Or.inl rfl) rfl rfl rfl ?_
    refine j_aload_n K dX1_loadNode_48 rfl ?_
    refine j_aload_n K dX1_loadNode_49 rfl ?_
    refine j_getA (k := 28) 14 K dX1_loadNode_50 rfl rfl rfl q211 rfl rfl (by decide) rfl rfl rfl ?_
    refine j_iload_n K dX1_loadNode_53 rfl ?_
    refine j_zal K dX1_loadNode_54 rfl (fxLen 14 rfl rfl) hi2 ?_
    refine j_putZ (k := 6) K dX1_loadNode_55 rfl rfl q552 rfl (Or.inl rfl) rfl rfl rfl ?_
    refine j_aload_n K dX1_loadNode_58 rfl ?_
    refine j_aload_n K dX1_loadNode_59 rfl ?_
    refine j_aload_n K dX1_loadNode_60 rfl ?_
    refine j_getA (k := 25) 11 K dX1_loadNode_61 rfl rfl rfl q208 rfl rfl (by decide) rfl rfl rfl ?_
    refine j_iload_n K dX1_loadNode_64 rfl ?_
    refine j_ial K dX1_loadNode_65 rfl (fxLen 11 rfl rfl) hi2 ?_
    refine j_aload_n K dX1_loadNode_66 rfl ?_
    refine j_callV _ K (hg_X1_loadNode (gI (sI (sI (sR r3.1 (gN w) 7 p2) (gN w) 5 (gI (sR r3.1 (gN w) 7 p2) 28 p1.toNatClampNeg)) (gN w) 6 (gI (sI (sR r3.1 (gN w) 7 p2) (gN w) 5 (gI (sR r3.1 (gN w) 7 p2) 28 p1.toNatClampNeg)) 29 p1.toNatClampNeg)) 26 p1.toNatClampNeg) (some (gN w)) (sI (sI (sR r3.1 (gN w) 7 p2) (gN w) 5 (gI (sR r3.1 (gN w) 7 p2) 28 p1.toNatClampNeg)) (gN w) 6 (gI (sI (sR r3.1 (gN w) 7 p2) (gN w) 5 (gI (sR r3.1 (gN w) 7 p2) 28 p1.toNatClampNeg)) 29 p1.toNatClampNeg)) false) dX1_loadNode_67 rfl rfl q1242 q1244 qs50 q93 q1245 pm_X1_loadNode rfl rfl rfl rfl rfl (fun r4 _ => ?_)
    refine j_putR (k := 8) K dX1_loadNode_70 rfl rfl q555 rfl (Or.inl rfl) rfl (Or.inl ⟨_, rfl⟩) rfl (by decide) rfl (fun _ => by decide +kernel) rfl ?_
    refine j_aload_n K dX1_loadNode_73 rfl ?_
    refine j_aload_n K dX1_loadNode_74 rfl ?_
    refine j_aload_n K dX1_loadNode_75 rfl ?_
    refine j_getA (k := 26) 12 K dX1_loadNode_76 rfl rfl rfl q209 rfl rfl (by decide) rfl rfl rfl ?_
    refine j_iload_n K dX1_loadNode_79 rfl ?_
    refine j_ial K dX1_loadNode_80 rfl (fxLen 12 rfl rfl) hi2 ?_
    refine j_aload_n K dX1_loadNode_81 rfl ?_
    refine j_callV _ K (hg_X1_loadNode (gI (sR r4.1 (gN w) 8 r4.2) 27 p1.toNatClampNeg) (some (gN w)) (sR r4.1 (gN w) 8 r4.2) false) dX1_loadNode_82 rfl rfl q1242 q1244 qs50 q93 q1245 pm_X1_loadNode rfl rfl rfl rfl rfl (fun r5 _ => ?_)
    refine j_putR (k := 9) K dX1_loadNode_85 rfl rfl q557 rfl (Or.inl rfl) rfl (Or.inl ⟨_, rfl⟩) rfl (by decide) rfl (fun _ => by decide +kernel) rfl ?_
    refine j_aload_n K dX1_loadNode_88 rfl ?_
    refine j_callV _ K (sim_X4_pull hG hl d (gN w) (sR r5.1 (gN w) 9 r5.2)) dX1_loadNode_89 rfl rfl q331 q332 q333 q102 q334 pm_X4_pull rfl rfl rfl rfl rfl (fun r6 _ => ?_)
    refine j_aload_n K dX1_loadNode_92 rfl ?_
    refine j_getA (k := 0) 0 K dX1_loadNode_93 rfl rfl rfl q179 rfl rfl (by decide) rfl rfl rfl ?_
    refine j_iload_n K dX1_loadNode_96 rfl ?_
    refine j_aload_n K dX1_loadNode_97 rfl ?_
    refine j_aas K dX1_loadNode_98 rfl rfl (fun _ => rfl) rfl rfl rfl (fxLen2 0 rfl rfl) hi2 ?_
    refine j_aload_n K dX1_loadNode_99 rfl ?_
    refine j_dup K dX1_loadNode_100 rfl ?_
    refine j_getI (k := 6) K dX1_loadNode_101 rfl rfl rfl q187 rfl rfl rfl ?_
    refine j_iconstZ K dX1_loadNode_104 rfl (Or.inr rfl) ?_
    refine j_iadd K dX1_loadNode_105 ?_
    refine j_putI (k := 6) K dX1_loadNode_106 rfl rfl q187 rfl (Or.inl rfl) rfl rfl rfl rfl ?_
    refine j_aload_n K dX1_loadNode_109 rfl ?_
    refine j_dup K dX1_loadNode_110 rfl ?_
    refine j_getI (k := 7) K dX1_loadNode_111 rfl rfl rfl q188 rfl rfl rfl ?_
    refine j_aload_n K dX1_loadNode_114 rfl ?_
    refine j_getZ (k := 6) K dX1_loadNode_115 rfl rfl rfl q552 rfl rfl rfl rfl ?_
    refine j_if_eq 125 K dX1_loadNode_118 (by decide) ?_ ?_
    · refine j_iconstZ K dX1_loadNode_125 rfl (Or.inl rfl) ?_
      refine j_iadd K dX1_loadNode_126 ?_
      refine j_putI (k := 7) K dX1_loadNode_127 rfl rfl q188 rfl (Or.inl rfl) rfl rfl rfl rfl ?_
      refine j_aload_n K dX1_loadNode_130 rfl ?_
      exact j_aret K hr (Or.inl ⟨_, rfl⟩) dX1_loadNode_131
    · refine j_iconstZ K dX1_loadNode_121 rfl (Or.inr rfl) ?_
      refine j_goto 126 K dX1_loadNode_122 (by decide) ?_
      refine j_iadd K dX1_loadNode_126 ?_
      refine j_putI (k := 7) K dX1_loadNode_127 rfl rfl q188 rfl (Or.inl rfl) rfl rfl rfl rfl ?_
      refine j_aload_n K dX1_loadNode_130 rfl ?_
      exact j_aret K hr (Or.inl ⟨_, rfl⟩) dX1_loadNode_131
  · refine j_null 4 K dX1_loadNode_4 ?_
    exact j_aret K hr (Or.inl ⟨_, rfl⟩) dX1_loadNode_5
def f_X1_loadNode : Nat → Int32 → Option Nat → Wd → Option (Wd × Option Nat)
  | 0 => fun _ _ _ => none
  | d + 1 => fB_X1_loadNode d (f_X1_loadNode d)
theorem sim_X1_loadNode {G : Gx} (hG : GW G) {l : Launch} (hl : l.stackTraces = false) : ∀ (d : Nat) (p1 : Int32) (p2 : Option Nat) (w : Wd) (fp1 : Bool), Mt G true l yX1_loadNode (ws_ yX1_loadNode cX1_loadNode 4 (some (.object "IntervalTree$Node"))) d (rrV G (pR 4)) [aR 1 (some 8), aB fp1 p1, aR 4 p2] w (f_X1_loadNode d p1 p2 w) := by
  intro d
  induction d with
  | zero => intros; exact fun _ h => by cases h
  | succ d ih => exact simB_X1_loadNode hG hl d ih

theorem pm_X1_load : yX1_load.cls = RX1 ∧ yX1_load.cls ≠ "java/lang/invoke/MethodHandle" ∧ yX1_load.cls ≠ "java/lang/invoke/VarHandle" ∧ (parseMethodDescriptor yX1_load.desc).map (fun d => d.parameters.length) = some 0 := by decide +kernel
def b_X1_load_98 (d : Nat) : Nat → Int32 → Wd → Option (Wd × (Int32 ⊕ Nat))
  | 0, _, _ => none
  | n + 1, x1, w =>
    if 4 ≤ x1 then
      (f_X1_size d w).bind fun r2 =>
      some (r2.1, .inl r2.2)
    else
      if ib x1 4 = true then
        (gR w 12 x1.toNatClampNeg).bind fun a4 =>
        b_X1_load_98 d n (x1 + 1) (sI w a4 0 0)
      else none
def b_X1_load_20 (d : Nat) : Nat → Int32 → Wd → Option (Wd × (Int32 ⊕ Nat))
  | 0, _, _ => none
  | n + 1, x1, w =>
    if (gI w 8 5) ≤ x1 then
      (f_X1_loadNode d (gI (sI (sI (sI (sI (sI (sI w 8 6 0) 8 7 0) 8 5 (gI (sI (sI w 8 6 0) 8 7 0) 8 30)) 8 8 (gI (sI (sI (sI w 8 6 0) 8 7 0) 8 5 (gI (sI (sI w 8 6 0) 8 7 0) 8 30)) 8 31)) 8 9 (gI (sI (sI (sI (sI w 8 6 0) 8 7 0) 8 5 (gI (sI (sI w 8 6 0) 8 7 0) 8 30)) 8 8 (gI (sI (sI (sI w 8 6 0) 8 7 0) 8 5 (gI (sI (sI w 8 6 0) 8 7 0) 8 30)) 8 31)) 8 32)) 8 10 (gI (sI (sI (sI (sI (sI w 8 6 0) 8 7 0) 8 5 (gI (sI (sI w 8 6 0) 8 7 0) 8 30)) 8 8 (gI (sI (sI (sI w 8 6 0) 8 7 0) 8 5 (gI (sI (sI w 8 6 0) 8 7 0) 8 30)) 8 31)) 8 9 (gI (sI (sI (sI (sI w 8 6 0) 8 7 0) 8 5 (gI (sI (sI w 8 6 0) 8 7 0) 8 30)) 8 8 (gI (sI (sI (sI w 8 6 0) 8 7 0) 8 5 (gI (sI (sI w 8 6 0) 8 7 0) 8 30)) 8 31)) 8 32)) 8 33)) 8 29) none (sI (sI (sI (sI (sI (sI w 8 6 0) 8 7 0) 8 5 (gI (sI (sI w 8 6 0) 8 7 0) 8 30)) 8 8 (gI (sI (sI (sI w 8 6 0) 8 7 0) 8 5 (gI (sI (sI w 8 6 0) 8 7 0) 8 30)) 8 31)) 8 9 (gI (sI (sI (sI (sI w 8 6 0) 8 7 0) 8 5 (gI (sI (sI w 8 6 0) 8 7 0) 8 30)) 8 8 (gI (sI (sI (sI w 8 6 0) 8 7 0) 8 5 (gI (sI (sI w 8 6 0) 8 7 0) 8 30)) 8 31)) 8 32)) 8 10 (gI (sI (sI (sI (sI (sI w 8 6 0) 8 7 0) 8 5 (gI (sI (sI w 8 6 0) 8 7 0) 8 30)) 8 8 (gI (sI (sI (sI w 8 6 0) 8 7 0) 8 5 (gI (sI (sI w 8 6 0) 8 7 0) 8 30)) 8 31)) 8 9 (gI (sI (sI (sI (sI w 8 6 0) 8 7 0) 8 5 (gI (sI (sI w 8 6 0) 8 7 0) 8 30)) 8 8 (gI (sI (sI (sI w 8 6 0) 8 7 0) 8 5 (gI (sI (sI w 8 6 0) 8 7 0) 8 30)) 8 31)) 8 32)) 8 33))).bind fun r1 =>
      b_X1_load_98 d FU 0 (sR r1.1 8 4 r1.2)
    else
      if ib x1 500 = true then
        b_X1_load_20 d n (x1 + 1) (sR w 9 x1.toNatClampNeg none)
      else none
def f_X1_load (d : Nat) (w : Wd) : Option (Wd × (Int32 ⊕ Nat)) :=
  match d with
  | 0 => none
  | d + 1 =>
    if 0 ≤ (gI w 8 30) then
      b_X1_load_20 d FU 0 w
    else
      if 8 ≤ d then
        if room w 6 = true then
          some (nw w 41 0 6, .inr (gN w))
        else none
      else none
theorem sb_X1_load_98 {G : Gx} (hG : GW G) {M : Mx} (hl : (mL M).stackTraces = false) {w0 : Wd} {d : Nat} (K : Cx (G, true, M, 2, w0) cX1_load "IntervalTree" (d + 1)) (hr : (mH M).sig.returnType = some .int) (hnm : (mH M).name = yX1_load.name) (hxt : ∀ x ∈ (mC M).exceptionTable.toList, False) (hnd : (mS M).methodNamed? yX1_load = some (mM M)) : ∀ (n : Nat), ∀ (x1 : Int32) (w : Wd) (fx1 : Bool), Jf (G, true, M, 2, w0) (rrX G pI) (b_X1_load_98 d n x1 w) w 98 [some (aR 1 (some 8)), some (aB fx1 x1)] [] := by
  intro n
  induction n with
  | zero => intros; exact j_none
  | succ n ih =>
    intro x1 w fx1
    refine j_iload_n K dX1_load_98 rfl ?_
    refine j_iconst (x := 4) K dX1_load_99 rfl ?_
    refine j_icmp_ge 119 K dX1_load_100 (by decide) ?_ ?_
    · refine j_aload_n K dX1_load_119 rfl ?_
      refine j_callV _ K (sim_X1_size hG hl d w) dX1_load_120 rfl rfl q434 q344 q345 q93 q346 pm_X1_size rfl rfl rfl rfl rfl (fun r2 _ => ?_)
      exact j_iretX K hr dX1_load_123
    · refine j_aload_n K dX1_load_103 rfl ?_
      refine j_getA (k := 3) 3 K dX1_load_104 rfl rfl rfl q184 rfl rfl (by decide) rfl rfl rfl ?_
      refine j_iload_n K dX1_load_107 rfl ?_
      refine j_ib (fun hi3 => ?_)
      refine j_aal K dX1_load_108 rfl (fun _ => rfl) (by decide) rfl rfl (fxLen 3 rfl rfl) hi3 ?_
      refine j_iconstZ K dX1_load_109 rfl (Or.inl rfl) ?_
      refine j_nn (fun a4 ha4 => ?_)
      refine j_putZ (k := 0) K dX1_load_110 rfl rfl q160 rfl (Or.inl rfl) rfl rfl ha4 ?_
      refine j_iinc (y := 1) K dX1_load_113 rfl rfl rfl rfl ?_
      refine j_goto 98 K dX1_load_116 (by decide) ?_
      exact ih _ _ _
theorem sb_X1_load_20 {G : Gx} (hG : GW G) {M : Mx} (hl : (mL M).stackTraces = false) {w0 : Wd} {d : Nat} (K : Cx (G, true, M, 2, w0) cX1_load "IntervalTree" (d + 1)) (hr : (mH M).sig.returnType = some .int) (hnm : (mH M).name = yX1_load.name) (hxt : ∀ x ∈ (mC M).exceptionTable.toList, False) (hnd : (mS M).methodNamed? yX1_load = some (mM M)) : ∀ (n : Nat), ∀ (x1 : Int32) (w : Wd) (fx1 : Bool), Jf (G, true, M, 2, w0) (rrX G pI) (b_X1_load_20 d n x1 w) w 20 [some (aR 1 (some 8)), some (aB fx1 x1)] [] := by
  intro n
  induction n with
  | zero => intros; exact j_none
  | succ n ih =>
    intro x1 w fx1
    refine j_iload_n K dX1_load_20 rfl ?_
    refine j_aload_n K dX1_load_21 rfl ?_
    refine j_getI (k := 5) K dX1_load_22 rfl rfl rfl q186 rfl rfl rfl ?_
    refine j_icmp_ge 41 K dX1_load_25 (by decide) ?_ ?_
    · refine j_aload_n K dX1_load_41 rfl ?_
      refine j_iconstZ K dX1_load_42 rfl (Or.inl rfl) ?_
      refine j_putI (k := 6) K dX1_load_43 rfl rfl q187 rfl (Or.inl rfl) rfl rfl rfl rfl ?_
      refine j_aload_n K dX1_load_46 rfl ?_
      refine j_iconstZ K dX1_load_47 rfl (Or.inl rfl) ?_
      refine j_putI (k := 7) K dX1_load_48 rfl rfl q188 rfl (Or.inl rfl) rfl rfl rfl rfl ?_
      refine j_aload_n K dX1_load_51 rfl ?_
      refine j_aload_n K dX1_load_52 rfl ?_
      refine j_getI (k := 30) K dX1_load_53 rfl rfl rfl q213 rfl rfl rfl ?_
      refine j_putI (k := 5) K dX1_load_56 rfl rfl q186 rfl (Or.inl rfl) rfl rfl rfl rfl ?_
      refine j_aload_n K dX1_load_59 rfl ?_
      refine j_aload_n K dX1_load_60 rfl ?_
      refine j_getI (k := 31) K dX1_load_61 rfl rfl rfl q214 rfl rfl rfl ?_
      refine j_putI (k := 8) K dX1_load_64 rfl rfl q189 rfl (Or.inl rfl) rfl rfl rfl rfl ?_
      refine j_aload_n K dX1_load_67 rfl ?_
      refine j_aload_n K dX1_load_68 rfl ?_
      refine j_getI (k := 32) K dX1_load_69 rfl rfl rfl q215 rfl rfl rfl ?_
      refine j_putI (k := 9) K dX1_load_72 rfl rfl q190 rfl (Or.inl rfl) rfl rfl rfl rfl ?_
      refine j_aload_n K dX1_load_75 rfl ?_
      refine j_aload_n K dX1_load_76 rfl ?_
      refine j_getI (k := 33) K dX1_load_77 rfl rfl rfl q216 rfl rfl rfl ?_
      refine j_putI (k := 10) K dX1_load_80 rfl rfl q191 rfl (Or.inl rfl) rfl rfl rfl rfl ?_
      refine j_aload_n K dX1_load_83 rfl ?_
      refine j_aload_n K dX1_load_84 rfl ?_
      refine j_aload_n K dX1_load_85 rfl ?_
      refine j_getI (k := 29) K dX1_load_86 rfl rfl rfl q212 rfl rfl rfl ?_
      refine j_null 4 K dX1_load_89 ?_
      refine j_callV _ K (sim_X1_loadNode hG hl d (gI (sI (sI (sI (sI (sI (sI w 8 6 0) 8 7 0) 8 5 (gI (sI (sI w 8 6 0) 8 7 0) 8 30)) 8 8 (gI (sI (sI (sI w 8 6 0) 8 7 0) 8 5 (gI (sI (sI w 8 6 0) 8 7 0) 8 30)) 8 31)) 8 9 (gI (sI (sI (sI (sI w 8 6 0) 8 7 0) 8 5 (gI (sI (sI w 8 6 0) 8 7 0) 8 30)) 8 8 (gI (sI (sI (sI w 8 6 0) 8 7 0) 8 5 (gI (sI (sI w 8 6 0) 8 7 0) 8 30)) 8 31)) 8 32)) 8 10 (gI (sI (sI (sI (sI (sI w 8 6 0) 8 7 0) 8 5 (gI (sI (sI w 8 6 0) 8 7 0) 8 30)) 8 8 (gI (sI (sI (sI w 8 6 0) 8 7 0) 8 5 (gI (sI (sI w 8 6 0) 8 7 0) 8 30)) 8 31)) 8 9 (gI (sI (sI (sI (sI w 8 6 0) 8 7 0) 8 5 (gI (sI (sI w 8 6 0) 8 7 0) 8 30)) 8 8 (gI (sI (sI (sI w 8 6 0) 8 7 0) 8 5 (gI (sI (sI w 8 6 0) 8 7 0) 8 30)) 8 31)) 8 32)) 8 33)) 8 29) none (sI (sI (sI (sI (sI (sI w 8 6 0) 8 7 0) 8 5 (gI (sI (sI w 8 6 0) 8 7 0) 8 30)) 8 8 (gI (sI (sI (sI w 8 6 0) 8 7 0) 8 5 (gI (sI (sI w 8 6 0) 8 7 0) 8 30)) 8 31)) 8 9 (gI (sI (sI (sI (sI w 8 6 0) 8 7 0) 8 5 (gI (sI (sI w 8 6 0) 8 7 0) 8 30)) 8 8 (gI (sI (sI (sI w 8 6 0) 8 7 0) 8 5 (gI (sI (sI w 8 6 0) 8 7 0) 8 30)) 8 31)) 8 32)) 8 10 (gI (sI (sI (sI (sI (sI w 8 6 0) 8 7 0) 8 5 (gI (sI (sI w 8 6 0) 8 7 0) 8 30)) 8 8 (gI (sI (sI (sI w 8 6 0) 8 7 0) 8 5 (gI (sI (sI w 8 6 0) 8 7 0) 8 30)) 8 31)) 8 9 (gI (sI (sI (sI (sI w 8 6 0) 8 7 0) 8 5 (gI (sI (sI w 8 6 0) 8 7 0) 8 30)) 8 8 (gI (sI (sI (sI w 8 6 0) 8 7 0) 8 5 (gI (sI (sI w 8 6 0) 8 7 0) 8 30)) 8 31)) 8 32)) 8 33)) false) dX1_load_90 rfl rfl q1242 q1244 qs50 q93 q1245 pm_X1_loadNode rfl rfl rfl rfl rfl (fun r1 _ => ?_)
      refine j_putR (k := 4) K dX1_load_93 rfl rfl q185 rfl (Or.inl rfl) rfl (Or.inl ⟨_, rfl⟩) rfl (by decide) rfl (fun _ => by decide +kernel) rfl ?_
      refine j_iconstZ K dX1_load_96 rfl (Or.inl rfl) ?_
      refine j_istore_n K dX1_load_97 rfl rfl ?_
      exact sb_X1_load_98 hG hl K hr hnm hxt hnd FU _ _ _
    · refine j_aload_n K dX1_load_28 rfl ?_
      refine j_getA (k := 0) 0 K dX1_load_29 rfl rfl rfl q179 rfl rfl (by decide) rfl rfl rfl ?_
      refine j_iload_n K dX1_load_32 rfl ?_
      refine j_null 4 K dX1_load_33 ?_
      refine j_ib (fun hi2 => ?_)
      refine j_aas K dX1_load_34 rfl rfl (fun _ => rfl) rfl rfl rfl (fxLen2 0 rfl rfl) hi2 ?_
      refine j_iinc (y := 1) K dX1_load_35 rfl rfl rfl rfl ?_
      refine j_goto 20 K dX1_load_38 (by decide) ?_
      exact ih _ _ _
theorem sim_X1_load {G : Gx} (hG : GW G) {l : Launch} (hl : l.stackTraces = false) (d : Nat) (w : Wd) : Mt G true l yX1_load (ws_ yX1_load cX1_load 2 (some .int)) d (rrX G pI) [aR 1 (some 8)] w (f_X1_load d w) := by
  refine Mt.of (own := "IntervalTree") hG hl (by decide +kernel) rfl rfl ?_
  intro M hM hr hnm hxt hnd K
  subst hM
  cases d with
  | zero => exact j_none
  | succ d =>
    refine j_aload_n K dX1_load_0 rfl ?_
    refine j_getI (k := 30) K dX1_load_1 rfl rfl rfl q213 rfl rfl rfl ?_
    refine j_if_ge 18 K dX1_load_4 (by decide) ?_ ?_
    · refine j_iconstZ K dX1_load_18 rfl (Or.inl rfl) ?_
      refine j_istore_n K dX1_load_19 rfl rfl ?_
      exact sb_X1_load_20 hG hl K hr hnm hxt hnd FU _ _ _
    · refine j_dp (fun h83 => ?_)
      refine j_rm (fun hr4 => ?_)
      refine j_mkW (kd := 41) K rfl (by decide +kernel) (by decide +kernel) rfl q520 q100 q1241 at_X1_41_1 at_X1_41_2 at_X1_41_3 rfl dX1_load_7 dX1_load_10 dX1_load_11 dX1_load_14 (Nat.le_succ_of_le h83) hr4 rfl ?_
      refine j_athrow K dX1_load_17 ?_
      exact j_outN K hxt rfl
