/-! the component's methods as functions (texts) (written by gen/gen_comp.py) -/
set_option maxRecDepth 20000
def C_X4_mayName_p33 (t : CS)  : Option Int32 := some (1 : Int32)
def C_X4_mayName (t : CS) (x1 : Int32) : Option Int32 := if (2 : Int32) ≤ x1 then if (8 : Int32) ≤ x1 then if (11 : Int32) ≤ x1 then if (t.1 200 7) = (203 : Int32) then some (1 : Int32) else some (0 : Int32) else if (t.1 200 7) = (202 : Int32) then some (1 : Int32) else some (0 : Int32) else if (t.1 200 7) = (200 : Int32) then C_X4_mayName_p33 t else if (t.1 200 7) = (201 : Int32) then C_X4_mayName_p33 t else some (0 : Int32) else some (1 : Int32)
def C_X4_isLetter_p24  : Option Int32 := some (1 : Int32)
def C_X4_isLetter_p12 (x0 : Int32) : Option Int32 := if x0 < (65 : Int32) then some (0 : Int32) else if (90 : Int32) < x0 then some (0 : Int32) else C_X4_isLetter_p24
def C_X4_isLetter (x0 : Int32) : Option Int32 := if x0 < (97 : Int32) then C_X4_isLetter_p12 x0 else if x0 ≤ (122 : Int32) then C_X4_isLetter_p24 else C_X4_isLetter_p12 x0
def C_X4_isDigit (x0 : Int32) : Option Int32 := if x0 < (48 : Int32) then some (0 : Int32) else if (57 : Int32) < x0 then some (0 : Int32) else some (1 : Int32)
def J_J10_coder (t : CS) (x0 : Nat) : Option Int32 := if (1 : Int32) = (0 : Int32) then nby (1 : Int32) (some (1 : Int32)) else ckQ x0 (nby (0 : Int32) (some (0 : Int32)))
def J_J10_length (t : CS) (x0 : Nat) : Option Int32 := ckQ x0 (ckQ x0 (ckQ x0 (bd1 (J_J10_coder t x0) fun v4 => (some ((nI (wLen.getD x0 0)) >>> (v4 &&& (31 : Int32)))))))
def J_J10_isLatin1 (t : CS) (x0 : Nat) : Option Int32 := if (1 : Int32) = (0 : Int32) then some (0 : Int32) else ckQ x0 (if (0 : Int32) = (0 : Int32) then some (1 : Int32) else some (0 : Int32))
def J_J12_checkIndex_204_p9 (t : CS) (x0 : Int32) (x1 : Int32) : Option Int32 := none
def J_J12_checkIndex_204 (t : CS) (x0 : Int32) (x1 : Int32) : Option Int32 := if x0 < (0 : Int32) then J_J12_checkIndex_204_p9 t x0 x1 else if x0 < x1 then some x0 else J_J12_checkIndex_204_p9 t x0 x1
def J_J10_checkIndex (t : CS) (x0 : Int32) (x1 : Int32) : Option Unit := bd1 (J_J12_checkIndex_204 t x0 x1) fun v1 => (some ())
def J_J11_charAt (t : CS) (x0 : Nat) (x1 : Int32) : Option Int32 := ckQ x0 (bd1 (J_J10_checkIndex t x1 (nI (wLen.getD x0 0))) fun v2 => (ckQ x0 (ck x1 (wLen.getD x0 0) (nch (((((wByt.getD x0 []).getD x1.toNatClampNeg 0) &&& (255 : Int32)).toUInt32 % 65536).toInt32) (some (((((wByt.getD x0 []).getD x1.toNatClampNeg 0) &&& (255 : Int32)).toUInt32 % 65536).toInt32))))))
def J_J10_charAt (t : CS) (x0 : Nat) (x1 : Int32) : Option Int32 := ckQ x0 (bd1 (J_J10_isLatin1 t x0) fun v2 => (if v2 = (0 : Int32) then ckQ x0 (none) else ckQ x0 (bd1 (J_J11_charAt t x0 x1) fun v5 => (nch v5 (some v5)))))
def C_X4_isWord_p20 (t : CS) : Nat → Nat → Int32 → Option Int32
  | 0, _, _ => none
  | n + 1, x1, x2 => ckQ x1 (bd1 (J_J10_length t x1) fun v2 => (if v2 ≤ x2 then some (1 : Int32) else ck ((t.1 200 3) + x2) 300 (ckQ x1 (bd1 (J_J10_charAt t x1 x2) fun v5 => (if (t.1 105 ((t.1 200 3) + x2).toNatClampNeg) = v5 then lt1 (x2 + (1 : Int32)) fun v6 => (C_X4_isWord_p20 t n x1 v6) else some (0 : Int32))))))
def C_X4_isWord (t : CS) (x1 : Nat) : Option Int32 := ckQ x1 (bd1 (J_J10_length t x1) fun v2 => (if ((t.1 200 2) - (t.1 200 3)) = v2 then C_X4_isWord_p20 t fu x1 (0 : Int32) else some (0 : Int32)))
def C_X4_next_p39 (k0 : CS → Option CS) (t : CS)  : Option CS := lt1 (ci_ t 200 2 ((t.1 200 2) + (1 : Int32))) fun t1 => (k0 t1)
def C_X4_next_p173 (k144 : CS → Int32 → Option CS) (t : CS) (x1 : Int32) : Option CS := lt1 (x1 + (1 : Int32)) fun v1 => (k144 t v1)
def C_X4_next_p144 : Nat → CS → Int32 → Option CS
  | 0, _, _ => none
  | n + 1, t, x1 => if (35 : Int32) ≤ x1 then some t else ck x1 35 (bd1 (C_X4_isWord t x1.toNatClampNeg) fun v2 => (if v2 = (0 : Int32) then C_X4_next_p173 (C_X4_next_p144 n) t x1 else lt1 (ci_ t 200 4 ((200 : Int32) + x1)) fun t3 => (C_X4_next_p173 (C_X4_next_p144 n) t3 x1)))
def C_X4_next_p135 (t : CS)  : Option CS := lt1 (ci_ t 200 4 (302 : Int32)) fun t1 => (C_X4_next_p144 fu t1 (0 : Int32))
def C_X4_next_p96 : Nat → CS → Option CS
  | 0, _ => none
  | n + 1, t => if (t.1 200 1) ≤ (t.1 200 2) then C_X4_next_p135 t else ck (t.1 200 2) 300 (bd1 (C_X4_isLetter (t.1 105 (t.1 200 2).toNatClampNeg)) fun v2 => (if v2 = (0 : Int32) then C_X4_next_p135 t else lt1 (ci_ t 200 2 ((t.1 200 2) + (1 : Int32))) fun t3 => (C_X4_next_p96 n t3)))
def C_X4_next_p209 : Nat → CS → Option CS
  | 0, _ => none
  | n + 1, t => if (t.1 200 1) ≤ (t.1 200 2) then some t else ck (t.1 200 2) 300 (bd1 (C_X4_isDigit (t.1 105 (t.1 200 2).toNatClampNeg)) fun v2 => (if v2 = (0 : Int32) then some t else ck (t.1 200 2) 300 (lt1 (ci_ t 200 5 (if ((((10 : Int32) * (t.1 200 5)) + (t.1 105 (t.1 200 2).toNatClampNeg)) - (48 : Int32)) < (99999 : Int32) then ((((10 : Int32) * (t.1 200 5)) + (t.1 105 (t.1 200 2).toNatClampNeg)) - (48 : Int32)) else (99999 : Int32))) fun t4 => (lt1 (ci_ t4 200 2 ((t4.1 200 2) + (1 : Int32))) fun t5 => (C_X4_next_p209 n t5)))))
def C_X4_next_p330 (k306 : CS → Int32 → Int32 → Option CS) (t : CS) (x1 : Int32) (x2 : Int32) : Option CS := lt1 (x2 + (1 : Int32)) fun v1 => (k306 t x1 v1)
def C_X4_next_p389 (t : CS) (y1 : Int32) : Option CS := lt1 (ci_ t 200 4 y1) fun t1 => (lt1 (ci_ t1 200 2 ((t1.1 200 2) + (1 : Int32))) fun t2 => (some t2))
def C_X4_next_p348 (t : CS) (x1 : Int32) : Option CS := if (t.1 200 1) ≤ (t.1 200 2) then some t else ck (t.1 200 2) 300 (if (t.1 105 (t.1 200 2).toNatClampNeg) = (61 : Int32) then if x1 = (60 : Int32) then C_X4_next_p389 t (303 : Int32) else C_X4_next_p389 t (304 : Int32) else some t)
def C_X4_next_p306 : Nat → CS → Int32 → Int32 → Option CS
  | 0, _, _, _ => none
  | n + 1, t, x1, x2 => ckQ 35 (bd1 (J_J10_length t 35) fun v2 => (if v2 ≤ x2 then if x1 = (60 : Int32) then C_X4_next_p348 t x1 else if x1 = (62 : Int32) then C_X4_next_p348 t x1 else some t else ckQ 35 (bd1 (J_J10_charAt t 35 x2) fun v4 => (if v4 = x1 then lt1 (ci_ t 200 4 x1) fun t5 => (C_X4_next_p330 (C_X4_next_p306 n) t5 x1 x2) else C_X4_next_p330 (C_X4_next_p306 n) t x1 x2))))
def C_X4_next_p52 (t : CS)  : Option CS := lt1 (ci_ t 200 3 (t.1 200 2)) fun t1 => (if (t1.1 200 2) = (t1.1 200 1) then lt1 (ci_ t1 200 4 (301 : Int32)) fun t12 => (some t12) else ck (t1.1 200 2) 300 (bd1 (C_X4_isLetter (t1.1 105 (t1.1 200 2).toNatClampNeg)) fun v3 => (if v3 = (0 : Int32) then ck (t1.1 200 2) 300 (bd1 (C_X4_isDigit (t1.1 105 (t1.1 200 2).toNatClampNeg)) fun v5 => (if v5 = (0 : Int32) then ck (t1.1 200 2) 300 (lt1 (t1.1 105 (t1.1 200 2).toNatClampNeg) fun v7 => (lt1 (ci_ t1 200 2 ((t1.1 200 2) + (1 : Int32))) fun t8 => (lt1 (ci_ t8 200 4 (302 : Int32)) fun t9 => (C_X4_next_p306 fu t9 v7 (0 : Int32))))) else lt1 (ci_ t1 200 4 (300 : Int32)) fun t10 => (lt1 (ci_ t10 200 5 (0 : Int32)) fun t11 => (C_X4_next_p209 fu t11)))) else C_X4_next_p96 fu t1)))
def C_X4_next_p0 : Nat → CS → Option CS
  | 0, _ => none
  | n + 1, t => if (t.1 200 1) ≤ (t.1 200 2) then C_X4_next_p52 t else ck (t.1 200 2) 300 (if (t.1 105 (t.1 200 2).toNatClampNeg) = (32 : Int32) then C_X4_next_p39 (C_X4_next_p0 n) t else ck (t.1 200 2) 300 (if (t.1 105 (t.1 200 2).toNatClampNeg) = (10 : Int32) then C_X4_next_p39 (C_X4_next_p0 n) t else C_X4_next_p52 t))
def C_X4_next (t : CS)  : Option CS := C_X4_next_p0 fu t
def C_X4_opens_p14 (t : CS) (y0 : Nat) : Option (Except Nat Unit × CS) := ckW t y0 (some (.error y0, t))
def C_X4_opens (t : CS)  : Option (Except Nat Unit × CS) := if (t.1 200 6) = (8 : Int32) then bd2 (C_wrong t (3 : Int32)) fun v4 t3 => (C_X4_opens_p14 t3 v4) else lt1 (ci_ t 200 6 ((t.1 200 6) + (1 : Int32))) fun t1 => (bd1 (C_X4_next t1) fun t2 => (some (.ok (), t2)))
def C_X10_init (t : CS) (x0 : Nat) (x1 : Int32) : Option CS := bd1 (J_J6_init t x0) fun v1 => (bd1 (dpf t x0 10 0 (.int x1)) fun t2 => (some t2))
def C_X4_number_p15 (t : CS) (y0 : Nat) : Option (Except Nat Int32 × CS) := ckW t y0 (some (.error y0, t))
def C_X4_number_p37 (t : CS) (y0 : Nat) : Option (Except Nat Int32 × CS) := ckW t y0 (some (.error y0, t))
def C_X4_number_p32 (t : CS)  : Option (Except Nat Int32 × CS) := bd2 (C_wrong t (2 : Int32)) fun v2 t1 => (C_X4_number_p37 t1 v2)
def C_X4_number (t : CS) (x1 : Int32) (x2 : Int32) : Option (Except Nat Int32 × CS) := if (t.1 200 4) = (300 : Int32) then if (t.1 200 5) < x1 then C_X4_number_p32 t else if (t.1 200 5) ≤ x2 then lt1 (t.1 200 5) fun v1 => (bd1 (C_X4_next t) fun t2 => (some (.ok v1, t2))) else C_X4_number_p32 t else bd2 (C_wrong t (1 : Int32)) fun v4 t3 => (C_X4_number_p15 t3 v4)
def C_X8_init_p19 (t : CS) (x0 : Nat) (x1 : Nat) (y0 : Nat) (y1 : Nat) : Option CS := bd1 (J_J9_init t y1) fun t1 => (bd1 (dpf t1 y0 8 2 (.ref y1)) fun t2 => (bd1 (dpf t2 x0 8 0 (.ref x1)) fun t3 => (some t3)))
def C_X8_init_p8 (t : CS) (x0 : Nat) (x1 : Nat) (y0 : Nat) (y1 : Nat) : Option CS := bd1 (J_J9_init t y1) fun t1 => (bd1 (dpf t1 y0 8 1 (.ref y1)) fun t2 => (lt1 (dnew t2 (.inr (15, [.int 0, .null, .int 0])) 3) fun t3 => (C_X8_init_p19 t3 x0 x1 x0 (t2.2.2.2 0))))
def C_X8_init (t : CS) (x0 : Nat) (x1 : Nat) : Option CS := lt1 (dnew t (.inr (15, [.int 0, .null, .int 0])) 3) fun t1 => (C_X8_init_p8 t1 x0 x1 x0 (t.2.2.2 0))
def J_J9_isEmpty (t : CS) (x0 : Nat) : Option Int32 := bd1 (gI t x0 15 2) fun v1 => (if v1 = (0 : Int32) then some (1 : Int32) else some (0 : Int32))
def C_X8_itself (t : CS) (x0 : Nat) : Option Nat := bd1 (gR t x0 8 1) fun v1 => (ckC t v1 15 (bd1 (J_J9_isEmpty t v1) fun v3 => (if v3 = (0 : Int32) then some x0 else bd1 (gR t x0 8 0) fun v4 => (some v4))))
def J_J5_valueOf_p23 (t : CS) (x0 : Int32) : Option Nat := none
def J_J5_valueOf (t : CS) (x0 : Int32) : Option Nat := if x0 < (-128 : Int32) then J_J5_valueOf_p23 t x0 else if (127 : Int32) < x0 then J_J5_valueOf_p23 t x0 else ck (x0 + (128 : Int32)) 256 (some (t.2.2.2 (400 + (x0 + (128 : Int32)).toNatClampNeg)))
def J_J1_newLength_p21 (x0 : Int32) (x1 : Int32) : Option Int32 := none
def J_J1_newLength (x0 : Int32) (x1 : Int32) (x2 : Int32) : Option Int32 := lt1 (x0 + (if x1 < x2 then x2 else x1)) fun v1 => (if v1 ≤ (0 : Int32) then J_J1_newLength_p21 x0 x1 else if (2147483639 : Int32) < v1 then J_J1_newLength_p21 x0 x1 else some v1)
def J_J0_copyOf_2_201_p24 (t : CS) (x0 : Nat) (x1 : Int32) (y0 : Nat) : Option (Nat × CS) := bd1 (aNE t x0) fun v1 => (bd1 (dcO t x0 (0 : Int32) y0 (0 : Int32) (if x1 < (nI v1) then x1 else (nI v1))) fun t2 => (some (y0, t2)))
def J_J0_copyOf_2_201_p10 (t : CS) (x0 : Nat) (x1 : Int32) (y0 : Nat) : Option (Nat × CS) := J_J0_copyOf_2_201_p24 t x0 x1 y0
def J_J0_copyOf_2_201 (t : CS) (x0 : Nat) (x1 : Int32) : Option (Nat × CS) := ngt x1 (lt1 (dnew t (.inl (7, x1.toNatClampNeg, qrf (fun _ => none))) x1.toNatClampNeg) fun t1 => (J_J0_copyOf_2_201_p10 t1 x0 x1 (t.2.2.2 0)))
def J_J0_copyOf_p9 (t : CS) (y0 : Nat) : Option (Nat × CS) := some (y0, t)
def J_J0_copyOf (t : CS) (x0 : Nat) (x1 : Int32) : Option (Nat × CS) := bd1 (aO t x0) fun v1 => (bd2 (J_J0_copyOf_2_201 t x0 x1) fun v3 t2 => (J_J0_copyOf_p9 t2 v3))
def J_J9_grow_2_p40 (t : CS) (y0 : Nat) (y1 : Nat) : Option (Nat × CS) := bd1 (dpf t y0 15 1 (.ref y1)) fun t1 => (some (y1, t1))
def J_J9_grow_2_p20 (t : CS) (x0 : Nat) (x1 : Int32) (x2 : Int32) : Option (Nat × CS) := bd1 (J_J1_newLength x2 (x1 - x2) (x2 >>> ((1 : Int32) &&& (31 : Int32)))) fun v1 => (bd1 (gR t x0 15 1) fun v2 => (bd2 (J_J0_copyOf t v2 v1) fun v4 t3 => (J_J9_grow_2_p40 t3 x0 v4)))
def J_J9_grow_2_p55 (t : CS) (y0 : Nat) (y1 : Nat) : Option (Nat × CS) := bd1 (dpf t y0 15 1 (.ref y1)) fun t1 => (some (y1, t1))
def J_J9_grow_2 (t : CS) (x0 : Nat) (x1 : Int32) : Option (Nat × CS) := bd1 (gR t x0 15 1) fun v1 => (bd1 (aNE t v1) fun v2 => (lt1 (nI v2) fun v3 => (if (0 : Int32) < v3 then J_J9_grow_2_p20 t x0 x1 v3 else bd1 (gR t x0 15 1) fun v4 => (if v4 = (t.2.2.2 6) then lt1 (if (10 : Int32) < x1 then x1 else (10 : Int32)) fun v5 => (ngt v5 (lt1 (dnew t (.inl (7, v5.toNatClampNeg, qrf (fun _ => none))) v5.toNatClampNeg) fun t6 => (J_J9_grow_2_p55 t6 x0 (t.2.2.2 0)))) else J_J9_grow_2_p20 t x0 x1 v3))))
def J_J9_grow_p10 (t : CS) (y0 : Nat) : Option (Nat × CS) := some (y0, t)
def J_J9_grow (t : CS) (x0 : Nat) : Option (Nat × CS) := bd1 (gI t x0 15 2) fun v1 => (ckC t x0 15 (bd2 (J_J9_grow_2 t x0 (v1 + (1 : Int32))) fun v4 t3 => (J_J9_grow_p10 t3 v4)))
def J_J9_add_2_p11 (t : CS) (x0 : Nat) (x1 : Nat) (x2 : Nat) (x3 : Int32) : Option CS := bd1 (dao t x2 x3 x1) fun t1 => (bd1 (dpf t1 x0 15 2 (.int (x3 + (1 : Int32)))) fun t2 => (some t2))
def J_J9_add_2_p10 (t : CS) (x0 : Nat) (x1 : Nat) (x3 : Int32) (y0 : Nat) : Option CS := J_J9_add_2_p11 t x0 x1 y0 x3
def J_J9_add_2 (t : CS) (x0 : Nat) (x1 : Nat) (x2 : Nat) (x3 : Int32) : Option CS := bd1 (aNE t x2) fun v1 => (if x3 = (nI v1) then ckC t x0 15 (bd2 (J_J9_grow t x0) fun v4 t3 => (J_J9_add_2_p10 t3 x0 x1 x3 v4)) else J_J9_add_2_p11 t x0 x1 x2 x3)
def J_J9_add_p23 (t : CS)  : Option (Int32 × CS) := some ((1 : Int32), t)
def J_J9_add (t : CS) (x0 : Nat) (x1 : Nat) : Option (Int32 × CS) := bd1 (gI t x0 15 0) fun v1 => (bd1 (dpf t x0 15 0 (.int (v1 + (1 : Int32)))) fun t2 => (bd1 (gR t2 x0 15 1) fun v3 => (bd1 (gI t2 x0 15 2) fun v4 => (ckC t2 x0 15 (bd1 (J_J9_add_2 t2 x0 x1 v3 v4) fun t6 => (J_J9_add_p23 t6))))))
def C_X8_add_p20 (t : CS) (y0 : Int32) : Option CS := some t
def C_X8_add_p11 (t : CS) (x0 : Nat) (x2 : Nat) (y0 : Int32) : Option CS := bd1 (gR t x0 8 1) fun v1 => (ckC t v1 15 (bd2 (J_J9_add t v1 x2) fun v4 t3 => (C_X8_add_p20 t3 v4)))
def C_X8_add (t : CS) (x0 : Nat) (x1 : Int32) (x2 : Nat) : Option CS := bd1 (gR t x0 8 2) fun v1 => (bd1 (J_J5_valueOf t x1) fun v2 => (ckC t v1 15 (bd2 (J_J9_add t v1 v2) fun v5 t4 => (C_X8_add_p11 t4 x0 x2 v5))))
def C_X4_product_p48 (rec : CS → Option (Except Nat Nat × CS)) (k12 : CS → Nat → Option (Except Nat Nat × CS)) (t : CS) (x1 : Nat) : Option (Except Nat Nat × CS) := k12 t x1
def C_X4_product_p45 (rec : CS → Option (Except Nat Nat × CS)) (k12 : CS → Nat → Option (Except Nat Nat × CS)) (t : CS) (x1 : Nat) (y0 : Nat) (y1 : Int32) (y2 : Nat) : Option (Except Nat Nat × CS) := ckC t y0 8 (bd1 (C_X8_add t y0 y1 y2) fun t2 => (C_X4_product_p48 rec k12 t2 x1))
def C_X4_product_p30 (rec : CS → Option (Except Nat Nat × CS)) (k12 : CS → Nat → Option (Except Nat Nat × CS)) (t : CS) (x1 : Nat) : Option (Except Nat Nat × CS) := lt1 (t.1 200 4) fun v1 => (bd1 (C_X4_next t) fun t2 => (bdx (rec t2) fun v4 t3 => (C_X4_product_p45 rec k12 t3 x1 x1 v1 v4)))
def C_X4_product_p12 (rec : CS → Option (Except Nat Nat × CS)) : Nat → CS → Nat → Option (Except Nat Nat × CS)
  | 0, _, _ => none
  | n + 1, t, x1 => if (t.1 200 4) = (42 : Int32) then C_X4_product_p30 rec (C_X4_product_p12 rec n) t x1 else if (t.1 200 4) = (47 : Int32) then C_X4_product_p30 rec (C_X4_product_p12 rec n) t x1 else ckC t x1 8 (bd1 (C_X8_itself t x1) fun v2 => (some (.ok v2, t)))
def C_X4_product_p11 (rec : CS → Option (Except Nat Nat × CS)) (t : CS) (y0 : Nat) : Option (Except Nat Nat × CS) := C_X4_product_p12 rec fu t y0
def C_X4_product_p8 (rec : CS → Option (Except Nat Nat × CS)) (t : CS) (y0 : Nat) (y1 : Nat) (y2 : Nat) : Option (Except Nat Nat × CS) := bd1 (C_X8_init t y1 y2) fun t1 => (C_X4_product_p11 rec t1 y0)
def C_X4_product_p3 (rec : CS → Option (Except Nat Nat × CS)) (t : CS) (y0 : Nat) : Option (Except Nat Nat × CS) := bdx (rec t) fun v2 t1 => (C_X4_product_p8 rec t1 y0 y0 v2)
def C_X4_product (rec : CS → Option (Except Nat Nat × CS)) (t : CS)  : Option (Except Nat Nat × CS) := lt1 (dnew t (.inr (8, [.null, .null, .null])) 3) fun t1 => (C_X4_product_p3 rec t1 (t.2.2.2 0))
def C_X4_sum_p48 (rec : CS → Option (Except Nat Nat × CS)) (k12 : CS → Nat → Option (Except Nat Nat × CS)) (t : CS) (x1 : Nat) : Option (Except Nat Nat × CS) := k12 t x1
def C_X4_sum_p45 (rec : CS → Option (Except Nat Nat × CS)) (k12 : CS → Nat → Option (Except Nat Nat × CS)) (t : CS) (x1 : Nat) (y0 : Nat) (y1 : Int32) (y2 : Nat) : Option (Except Nat Nat × CS) := ckC t y0 8 (bd1 (C_X8_add t y0 y1 y2) fun t2 => (C_X4_sum_p48 rec k12 t2 x1))
def C_X4_sum_p30 (rec : CS → Option (Except Nat Nat × CS)) (k12 : CS → Nat → Option (Except Nat Nat × CS)) (t : CS) (x1 : Nat) : Option (Except Nat Nat × CS) := lt1 (t.1 200 4) fun v1 => (bd1 (C_X4_next t) fun t2 => (bdx (C_X4_product rec t2) fun v4 t3 => (C_X4_sum_p45 rec k12 t3 x1 x1 v1 v4)))
def C_X4_sum_p12 (rec : CS → Option (Except Nat Nat × CS)) : Nat → CS → Nat → Option (Except Nat Nat × CS)
  | 0, _, _ => none
  | n + 1, t, x1 => if (t.1 200 4) = (43 : Int32) then C_X4_sum_p30 rec (C_X4_sum_p12 rec n) t x1 else if (t.1 200 4) = (45 : Int32) then C_X4_sum_p30 rec (C_X4_sum_p12 rec n) t x1 else ckC t x1 8 (bd1 (C_X8_itself t x1) fun v2 => (some (.ok v2, t)))
def C_X4_sum_p11 (rec : CS → Option (Except Nat Nat × CS)) (t : CS) (y0 : Nat) : Option (Except Nat Nat × CS) := C_X4_sum_p12 rec fu t y0
def C_X4_sum_p8 (rec : CS → Option (Except Nat Nat × CS)) (t : CS) (y0 : Nat) (y1 : Nat) (y2 : Nat) : Option (Except Nat Nat × CS) := bd1 (C_X8_init t y1 y2) fun t1 => (C_X4_sum_p11 rec t1 y0)
def C_X4_sum_p3 (rec : CS → Option (Except Nat Nat × CS)) (t : CS) (y0 : Nat) : Option (Except Nat Nat × CS) := bdx (C_X4_product rec t) fun v2 t1 => (C_X4_sum_p8 rec t1 y0 y0 v2)
def C_X4_sum (rec : CS → Option (Except Nat Nat × CS)) (t : CS)  : Option (Except Nat Nat × CS) := lt1 (dnew t (.inr (8, [.null, .null, .null])) 3) fun t1 => (C_X4_sum_p3 rec t1 (t.2.2.2 0))
def C_X9_init (t : CS) (x0 : Nat) (x1 : Int32) : Option CS := bd1 (J_J6_init t x0) fun v1 => (bd1 (dpf t x0 9 0 (.int x1)) fun t2 => (some t2))
def C_X4_want_p13 (t : CS) (y0 : Nat) : Option (Except Nat Unit × CS) := ckW t y0 (some (.error y0, t))
def C_X4_want (t : CS) (x1 : Int32) : Option (Except Nat Unit × CS) := if (t.1 200 4) = x1 then bd1 (C_X4_next t) fun t1 => (some (.ok (), t1)) else bd2 (C_wrong t (1 : Int32)) fun v3 t2 => (C_X4_want_p13 t2 v3)
def C_X11_init (t : CS) (x0 : Nat) (x1 : Nat) : Option CS := bd1 (J_J6_init t x0) fun v1 => (bd1 (dpf t x0 11 0 (.ref x1)) fun t2 => (some t2))
def C_X4_one_p22 (rec : CS → Option (Except Nat Nat × CS)) (t : CS) (y0 : Nat) (y1 : Nat) (y2 : Int32) : Option (Except Nat Nat × CS) := bd1 (C_X9_init t y1 y2) fun t1 => (some (.ok y0, t1))
def C_X4_one_p13 (rec : CS → Option (Except Nat Nat × CS)) (t : CS) (y0 : Nat) : Option (Except Nat Nat × CS) := bdx (C_X4_number t (0 : Int32) (9999 : Int32)) fun v2 t1 => (C_X4_one_p22 rec t1 y0 y0 v2)
def C_X4_one_p68 (rec : CS → Option (Except Nat Nat × CS)) (t : CS) (y0 : Nat) : Option (Except Nat Nat × CS) := ckW t y0 (some (.error y0, t))
def C_X4_one_p76 (rec : CS → Option (Except Nat Nat × CS)) (t : CS) (x1 : Int32) (y0 : Nat) : Option (Except Nat Nat × CS) := bd1 (C_X10_init t y0 x1) fun t1 => (some (.ok y0, t1))
def C_X4_one_p143 (rec : CS → Option (Except Nat Nat × CS)) (t : CS) (x1 : Nat) : Option (Except Nat Nat × CS) := lt1 (ci_ t 200 6 ((t.1 200 6) - (1 : Int32))) fun t1 => (some (.ok x1, t1))
def C_X4_one_p106 (rec : CS → Option (Except Nat Nat × CS)) (t : CS) (x1 : Nat) : Option (Except Nat Nat × CS) := C_X4_one_p143 rec t x1
def C_X4_one_p99 (rec : CS → Option (Except Nat Nat × CS)) (t : CS) (y0 : Nat) : Option (Except Nat Nat × CS) := bdx (C_X4_want t (41 : Int32)) fun v2 t1 => (C_X4_one_p106 rec t1 y0)
def C_X4_one_p95 (rec : CS → Option (Except Nat Nat × CS)) (t : CS)  : Option (Except Nat Nat × CS) := bdx (C_X4_sum rec t) fun v2 t1 => (C_X4_one_p99 rec t1 v2)
def C_X4_one_p130 (rec : CS → Option (Except Nat Nat × CS)) (t : CS) (y0 : Nat) (y1 : Nat) (y2 : Nat) : Option (Except Nat Nat × CS) := bd1 (C_X11_init t y1 y2) fun t1 => (C_X4_one_p143 rec t1 y0)
def C_X4_one_p125 (rec : CS → Option (Except Nat Nat × CS)) (t : CS) (y0 : Nat) : Option (Except Nat Nat × CS) := bdx (rec t) fun v2 t1 => (C_X4_one_p130 rec t1 y0 y0 v2)
def C_X4_one_p122 (rec : CS → Option (Except Nat Nat × CS)) (t : CS)  : Option (Except Nat Nat × CS) := lt1 (dnew t (.inr (11, [.null])) 1) fun t1 => (C_X4_one_p125 rec t1 (t.2.2.2 0))
def C_X4_one_p142 (rec : CS → Option (Except Nat Nat × CS)) (t : CS) (y0 : Nat) : Option (Except Nat Nat × CS) := ckW t y0 (some (.error y0, t))
def C_X4_one_p82 (rec : CS → Option (Except Nat Nat × CS)) (t : CS)  : Option (Except Nat Nat × CS) := if (t.1 200 4) = (40 : Int32) then bdx (C_X4_opens t) fun v7 t6 => (C_X4_one_p95 rec t6) else if (t.1 200 4) = (45 : Int32) then bdx (C_X4_opens t) fun v4 t3 => (C_X4_one_p122 rec t3) else bd2 (C_wrong t (1 : Int32)) fun v2 t1 => (C_X4_one_p142 rec t1 v2)
def C_X4_one_b (rec : CS → Option (Except Nat Nat × CS)) (t : CS)  : Option (Except Nat Nat × CS) := if (t.1 200 4) = (300 : Int32) then lt1 (dnew t (.inr (9, [.int 0])) 1) fun t7 => (C_X4_one_p13 rec t7 (t.2.2.2 0)) else if (t.1 200 4) < (221 : Int32) then C_X4_one_p82 rec t else if (234 : Int32) < (t.1 200 4) then C_X4_one_p82 rec t else lt1 ((t.1 200 4) - (221 : Int32)) fun v1 => (bd1 (C_X4_mayName t v1) fun v2 => (if v2 = (0 : Int32) then bd2 (C_wrong t (5 : Int32)) fun v6 t5 => (C_X4_one_p68 rec t5 v6) else bd1 (C_X4_next t) fun t3 => (lt1 (dnew t3 (.inr (10, [.int 0])) 1) fun t4 => (C_X4_one_p76 rec t4 v1 (t3.2.2.2 0)))))
def C_X4_one : Nat → CS → Option (Except Nat Nat × CS)
  | 0, _ => none
  | n + 1, t => C_X4_one_b (C_X4_one n) t
def C_X7_init (t : CS) (x0 : Nat) (x1 : Nat) : Option CS := bd1 (J_J6_init t x0) fun v1 => (bd1 (dpf t x0 7 0 (.ref x1)) fun t2 => (some t2))
def C_X12_init (t : CS) (x0 : Nat) (x1 : Int32) (x2 : Nat) (x3 : Nat) : Option CS := bd1 (J_J6_init t x0) fun v1 => (bd1 (dpf t x0 12 0 (.int x1)) fun t2 => (bd1 (dpf t2 x0 12 1 (.ref x2)) fun t3 => (bd1 (dpf t3 x0 12 2 (.ref x3)) fun t4 => (some t4))))
def C_X4_ask_p22 (rec : CS → Option (Except Nat Nat × CS)) (t : CS) (y0 : Nat) (y1 : Nat) (y2 : Nat) : Option (Except Nat Nat × CS) := bd1 (C_X7_init t y1 y2) fun t1 => (lt1 (ci_ t1 200 6 ((t1.1 200 6) - (1 : Int32))) fun t2 => (some (.ok y0, t2)))
def C_X4_ask_p17 (rec : CS → Option (Except Nat Nat × CS)) (t : CS) (y0 : Nat) : Option (Except Nat Nat × CS) := bdx (rec t) fun v2 t1 => (C_X4_ask_p22 rec t1 y0 y0 v2)
def C_X4_ask_p14 (rec : CS → Option (Except Nat Nat × CS)) (t : CS)  : Option (Except Nat Nat × CS) := lt1 (dnew t (.inr (7, [.null])) 1) fun t1 => (C_X4_ask_p17 rec t1 (t.2.2.2 0))
def C_X4_ask_p91 (rec : CS → Option (Except Nat Nat × CS)) (t : CS) (y0 : Nat) : Option (Except Nat Nat × CS) := ckW t y0 (some (.error y0, t))
def C_X4_ask_p106 (rec : CS → Option (Except Nat Nat × CS)) (t : CS) (y0 : Nat) (y1 : Nat) (y2 : Int32) (y3 : Nat) (y4 : Nat) : Option (Except Nat Nat × CS) := bd1 (C_X12_init t y1 y2 y3 y4) fun t1 => (some (.ok y0, t1))
def C_X4_ask_p99 (rec : CS → Option (Except Nat Nat × CS)) (t : CS) (x1 : Nat) (x2 : Int32) (y0 : Nat) : Option (Except Nat Nat × CS) := bdx (C_X4_sum (C_X4_one 64) t) fun v2 t1 => (C_X4_ask_p106 rec t1 y0 y0 x2 x1 v2)
def C_X4_ask_p92 (rec : CS → Option (Except Nat Nat × CS)) (t : CS) (x1 : Nat) (x2 : Int32) : Option (Except Nat Nat × CS) := bd1 (C_X4_next t) fun t1 => (lt1 (dnew t1 (.inr (12, [.int 0, .null, .null])) 3) fun t2 => (C_X4_ask_p99 rec t2 x1 x2 (t1.2.2.2 0)))
def C_X4_ask_p42 (rec : CS → Option (Except Nat Nat × CS)) (t : CS) (y0 : Nat) : Option (Except Nat Nat × CS) := lt1 (t.1 200 4) fun v1 => (if v1 = (60 : Int32) then C_X4_ask_p92 rec t y0 v1 else if v1 = (62 : Int32) then C_X4_ask_p92 rec t y0 v1 else if v1 = (61 : Int32) then C_X4_ask_p92 rec t y0 v1 else if v1 = (35 : Int32) then C_X4_ask_p92 rec t y0 v1 else if v1 = (303 : Int32) then C_X4_ask_p92 rec t y0 v1 else if v1 = (304 : Int32) then C_X4_ask_p92 rec t y0 v1 else bd2 (C_wrong t (1 : Int32)) fun v3 t2 => (C_X4_ask_p91 rec t2 v3))
def C_X4_ask_b (rec : CS → Option (Except Nat Nat × CS)) (t : CS)  : Option (Except Nat Nat × CS) := if (t.1 200 4) = (220 : Int32) then bdx (C_X4_opens t) fun v5 t4 => (C_X4_ask_p14 rec t4) else bdx (C_X4_sum (C_X4_one 64) t) fun v2 t1 => (C_X4_ask_p42 rec t1 v2)
def C_X4_ask : Nat → CS → Option (Except Nat Nat × CS)
  | 0, _ => none
  | n + 1, t => C_X4_ask_b (C_X4_ask n) t
def C_X13_init (t : CS) (x0 : Nat) (x1 : Int32) (x2 : Nat) : Option CS := bd1 (J_J6_init t x0) fun v1 => (zr x1 (bd1 (dpf t x0 13 0 (.int x1)) fun t2 => (bd1 (dpf t2 x0 13 1 (.ref x2)) fun t3 => (some t3))))
def C_X4_both_p39 (k17 : CS → Nat → Option (Except Nat Nat × CS)) (t : CS) (x1 : Nat) (y0 : Int32) : Option (Except Nat Nat × CS) := k17 t x1
def C_X4_both_p36 (k17 : CS → Nat → Option (Except Nat Nat × CS)) (t : CS) (x1 : Nat) (y0 : Nat) (y1 : Nat) : Option (Except Nat Nat × CS) := ckC t y0 15 (bd2 (J_J9_add t y0 y1) fun v3 t2 => (C_X4_both_p39 k17 t2 x1 v3))
def C_X4_both_p65 (t : CS) (x1 : Nat) (y0 : Nat) : Option (Except Nat Nat × CS) := bd1 (C_X13_init t y0 (1 : Int32) x1) fun t1 => (some (.ok y0, t1))
def C_X4_both_p17 : Nat → CS → Nat → Option (Except Nat Nat × CS)
  | 0, _, _ => none
  | n + 1, t, x1 => if (t.1 200 4) = (219 : Int32) then bd1 (C_X4_next t) fun t7 => (bdx (C_X4_ask 64 t7) fun v9 t8 => (C_X4_both_p36 (C_X4_both_p17 n) t8 x1 x1 v9)) else ckC t x1 15 (bd1 (J_J9_size t x1) fun v2 => (if v2 = (1 : Int32) then ckC t x1 15 (bd1 (J_J9_get t x1 (0 : Int32)) fun v5 => (ckK t v5 (some (.ok v5, t)))) else lt1 (dnew t (.inr (13, [.int 0, .null])) 2) fun t3 => (C_X4_both_p65 t3 x1 (t.2.2.2 0))))
def C_X4_both_p16 (t : CS) (x1 : Nat) (y0 : Int32) : Option (Except Nat Nat × CS) := C_X4_both_p17 fu t x1
def C_X4_both_p13 (t : CS) (x1 : Nat) (y0 : Nat) (y1 : Nat) : Option (Except Nat Nat × CS) := ckC t y0 15 (bd2 (J_J9_add t y0 y1) fun v3 t2 => (C_X4_both_p16 t2 x1 v3))
def C_X4_both_p3 (t : CS) (y0 : Nat) : Option (Except Nat Nat × CS) := bd1 (J_J9_init t y0) fun t1 => (bdx (C_X4_ask 64 t1) fun v3 t2 => (C_X4_both_p13 t2 y0 y0 v3))
def C_X4_both (t : CS)  : Option (Except Nat Nat × CS) := lt1 (dnew t (.inr (15, [.int 0, .null, .int 0])) 3) fun t1 => (C_X4_both_p3 t1 (t.2.2.2 0))
def C_X4_either_p39 (k17 : CS → Nat → Option (Except Nat Nat × CS)) (t : CS) (x1 : Nat) (y0 : Int32) : Option (Except Nat Nat × CS) := k17 t x1
def C_X4_either_p36 (k17 : CS → Nat → Option (Except Nat Nat × CS)) (t : CS) (x1 : Nat) (y0 : Nat) (y1 : Nat) : Option (Except Nat Nat × CS) := ckC t y0 15 (bd2 (J_J9_add t y0 y1) fun v3 t2 => (C_X4_either_p39 k17 t2 x1 v3))
def C_X4_either_p65 (t : CS) (x1 : Nat) (y0 : Nat) : Option (Except Nat Nat × CS) := bd1 (C_X13_init t y0 (0 : Int32) x1) fun t1 => (some (.ok y0, t1))
def C_X4_either_p17 : Nat → CS → Nat → Option (Except Nat Nat × CS)
  | 0, _, _ => none
  | n + 1, t, x1 => if (t.1 200 4) = (218 : Int32) then bd1 (C_X4_next t) fun t7 => (bdx (C_X4_both t7) fun v9 t8 => (C_X4_either_p36 (C_X4_either_p17 n) t8 x1 x1 v9)) else ckC t x1 15 (bd1 (J_J9_size t x1) fun v2 => (if v2 = (1 : Int32) then ckC t x1 15 (bd1 (J_J9_get t x1 (0 : Int32)) fun v5 => (ckK t v5 (some (.ok v5, t)))) else lt1 (dnew t (.inr (13, [.int 0, .null])) 2) fun t3 => (C_X4_either_p65 t3 x1 (t.2.2.2 0))))
def C_X4_either_p16 (t : CS) (x1 : Nat) (y0 : Int32) : Option (Except Nat Nat × CS) := C_X4_either_p17 fu t x1
def C_X4_either_p13 (t : CS) (x1 : Nat) (y0 : Nat) (y1 : Nat) : Option (Except Nat Nat × CS) := ckC t y0 15 (bd2 (J_J9_add t y0 y1) fun v3 t2 => (C_X4_either_p16 t2 x1 v3))
def C_X4_either_p3 (t : CS) (y0 : Nat) : Option (Except Nat Nat × CS) := bd1 (J_J9_init t y0) fun t1 => (bdx (C_X4_both t1) fun v3 t2 => (C_X4_either_p13 t2 y0 y0 v3))
def C_X4_either (t : CS)  : Option (Except Nat Nat × CS) := lt1 (dnew t (.inr (15, [.int 0, .null, .int 0])) 3) fun t1 => (C_X4_either_p3 t1 (t.2.2.2 0))
def C_X4_letters_p31 (t : CS) (y0 : Nat) : Option (Except Nat Nat × CS) := ckW t y0 (some (.error y0, t))
def C_X4_letters_p26 (t : CS)  : Option (Except Nat Nat × CS) := bd2 (C_wrong t (1 : Int32)) fun v2 t1 => (C_X4_letters_p31 t1 v2)
def C_X4_letters_p78 (t : CS) (y0 : Nat) : Option (Except Nat Nat × CS) := ckW t y0 (some (.error y0, t))
def C_X4_letters_p72 (t : CS)  : Option (Except Nat Nat × CS) := bd2 (C_wrong t (7 : Int32)) fun v2 t1 => (C_X4_letters_p78 t1 v2)
def C_X4_letters_p91 : Nat → CS → Int32 → Nat → Int32 → Option (Except Nat Nat × CS)
  | 0, _, _, _, _ => none
  | n + 1, t, x1, x2, x3 => if x1 ≤ x3 then bd1 (C_X4_next t) fun t1 => (some (.ok x2, t1)) else ck ((t.1 200 3) + x3) 300 (bd1 (das t x2 x3 (t.1 105 ((t.1 200 3) + x3).toNatClampNeg)) fun t3 => (lt1 (x3 + (1 : Int32)) fun v4 => (C_X4_letters_p91 n t3 x1 x2 v4)))
def C_X4_letters_p88 (t : CS) (x1 : Int32) (y0 : Nat) : Option (Except Nat Nat × CS) := C_X4_letters_p91 fu t x1 y0 (0 : Int32)
def C_X4_letters_p47 : Nat → CS → Int32 → Int32 → Option (Except Nat Nat × CS)
  | 0, _, _, _ => none
  | n + 1, t, x1, x2 => if (t.1 200 2) ≤ x2 then ngt x1 (lt1 (dnew t (.inl (0, x1.toNatClampNeg, .inl (fun _ => 0))) x1.toNatClampNeg) fun t1 => (C_X4_letters_p88 t1 x1 (t.2.2.2 0))) else if (8 : Int32) < x1 then C_X4_letters_p72 t else ck x2 300 (if (97 : Int32) ≤ (t.1 105 x2.toNatClampNeg) then lt1 (x2 + (1 : Int32)) fun v4 => (C_X4_letters_p47 n t x1 v4) else C_X4_letters_p72 t)
def C_X4_letters (t : CS)  : Option (Except Nat Nat × CS) := if (t.1 200 3) = (t.1 200 1) then C_X4_letters_p26 t else ck (t.1 200 3) 300 (bd1 (C_X4_isLetter (t.1 105 (t.1 200 3).toNatClampNeg)) fun v2 => (if v2 = (0 : Int32) then C_X4_letters_p26 t else lt1 ((t.1 200 2) - (t.1 200 3)) fun v3 => (lt1 (t.1 200 3) fun v4 => (C_X4_letters_p47 fu t v3 v4))))
def C_X14_init_n (t : CS) (x0 : Nat) (x1 : Int32) (x2 : Nat) (x4 : Int32) (x5 : Int32) : Option CS := bd1 (J_J6_init t x0) fun v1 => (bd1 (dpf t x0 14 0 (.int x1)) fun t2 => (bd1 (dpf t2 x0 14 1 (.ref x2)) fun t3 => (bd1 (dpf t3 x0 14 2 (.null)) fun t4 => (bd1 (dpf t4 x0 14 3 (.int x4)) fun t5 => (bd1 (dpf t5 x0 14 4 (.int x5)) fun t6 => (some t6))))))
def C_X4_sign_p38 (t : CS) (x1 : Int32) (y0 : Nat) (y1 : Nat) (y2 : Int32) (y3 : Nat) (y5 : Int32) : Option (Except Nat Nat × CS) := bd1 (C_X14_init_n t y1 y2 y3 y5 x1) fun t1 => (some (.ok y0, t1))
def C_X4_sign_p25 (t : CS) (x1 : Int32) (x2 : Nat) (y0 : Nat) : Option (Except Nat Nat × CS) := bdx (C_X4_number t (0 : Int32) (9 : Int32)) fun v2 t1 => (C_X4_sign_p38 t1 x1 y0 y0 (210 : Int32) x2 v2)
def C_X4_sign_p50 (t : CS) (x1 : Int32) (x2 : Nat) (y0 : Nat) : Option (Except Nat Nat × CS) := bd1 (C_X14_init_n t y0 (210 : Int32) x2 (-1 : Int32) x1) fun t1 => (some (.ok y0, t1))
def C_X4_sign_p12 (t : CS) (x1 : Int32) (x2 : Nat) : Option (Except Nat Nat × CS) := if (t.1 200 4) = (217 : Int32) then bd1 (C_X4_next t) fun t1 => (lt1 (dnew t1 (.inr (14, [.int 0, .null, .null, .int 0, .int 0])) 5) fun t2 => (C_X4_sign_p50 t2 x1 x2 (t1.2.2.2 0))) else lt1 (dnew t (.inr (14, [.int 0, .null, .null, .int 0, .int 0])) 5) fun t3 => (C_X4_sign_p25 t3 x1 x2 (t.2.2.2 0))
def C_X4_sign_p4 (t : CS) (x1 : Int32) (y0 : Nat) : Option (Except Nat Nat × CS) := bdx (C_X4_want t (216 : Int32)) fun v2 t1 => (C_X4_sign_p12 t1 x1 y0)
def C_X4_sign (t : CS) (x1 : Int32) : Option (Except Nat Nat × CS) := bdx (C_X4_letters t) fun v2 t1 => (C_X4_sign_p4 t1 x1 v2)
def J_J0_copyOf_3_p10 (t : CS) (y0 : Nat) : Option (Nat × CS) := bd1 (aIn t y0) fun v1 => (some (y0, t))
def J_J0_copyOf_3_p17 (t : CS) (x0 : Nat) (x1 : Int32) (y0 : Nat) : Option (Nat × CS) := bd1 (aN t x0) fun v1 => (bd1 (dcI t x0 (0 : Int32) y0 (0 : Int32) (if x1 < (nI v1) then x1 else (nI v1))) fun t2 => (some (y0, t2)))
def J_J0_copyOf_3 (t : CS) (x0 : Nat) (x1 : Int32) : Option (Nat × CS) := bd1 (aN t x0) fun v1 => (if x1 = (nI v1) then bd1 (aIn t x0) fun v5 => (lt1 (dnew t (.inl (0, v5.1, .inl v5.2)) v5.1) fun t4 => (J_J0_copyOf_3_p10 t4 (t.2.2.2 0))) else ngt x1 (lt1 (dnew t (.inl (0, x1.toNatClampNeg, .inl (fun _ => 0))) x1.toNatClampNeg) fun t2 => (J_J0_copyOf_3_p17 t2 x0 x1 (t.2.2.2 0))))
def C_X4_senses_p44 (t : CS) (y0 : Nat) : Option (Except Nat Nat × CS) := ckW t y0 (some (.error y0, t))
def C_X4_senses_p85 (k9 : CS → Nat → Int32 → Int32 → Option (Except Nat Nat × CS)) (t : CS) (x1 : Nat) (x2 : Int32) (x3 : Int32) : Option (Except Nat Nat × CS) := k9 t x1 x2 x3
def C_X4_senses_p76 (k9 : CS → Nat → Int32 → Int32 → Option (Except Nat Nat × CS)) (t : CS) (x1 : Nat) (x2 : Int32) (y0 : Int32) : Option (Except Nat Nat × CS) := if y0 = (0 : Int32) then C_X4_senses_p85 k9 t x1 x2 y0 else bd1 (C_X4_next t) fun t1 => (C_X4_senses_p85 k9 t1 x1 x2 y0)
def C_X4_senses_p52 (k9 : CS → Nat → Int32 → Int32 → Option (Except Nat Nat × CS)) (t : CS) (x1 : Nat) (x2 : Int32) (y0 : Int32) : Option (Except Nat Nat × CS) := bd1 (das t x1 x2 y0) fun t1 => (lt1 (x2 + (1 : Int32)) fun v2 => (if (t1.1 200 4) = (44 : Int32) then C_X4_senses_p76 k9 t1 x1 v2 (1 : Int32) else C_X4_senses_p76 k9 t1 x1 v2 (0 : Int32)))
def C_X4_senses_p45 (k9 : CS → Nat → Int32 → Int32 → Option (Except Nat Nat × CS)) (t : CS) (x1 : Nat) (x2 : Int32) : Option (Except Nat Nat × CS) := bdx (C_X4_number t (0 : Int32) (9 : Int32)) fun v2 t1 => (C_X4_senses_p52 k9 t1 x1 x2 v2)
def C_X4_senses_p93 (t : CS) (y0 : Nat) : Option (Except Nat Nat × CS) := some (.ok y0, t)
def C_X4_senses_p9 : Nat → CS → Nat → Int32 → Int32 → Option (Except Nat Nat × CS)
  | 0, _, _, _, _ => none
  | n + 1, t, x1, x2, x3 => if x3 = (0 : Int32) then bd2 (J_J0_copyOf_3 t x1 x2) fun v2 t1 => (C_X4_senses_p93 t1 v2) else if x2 = (8 : Int32) then if (t.1 200 4) = (300 : Int32) then if (10 : Int32) ≤ (t.1 200 5) then C_X4_senses_p45 (C_X4_senses_p9 n) t x1 x2 else bd2 (C_wrong t (8 : Int32)) fun v4 t3 => (C_X4_senses_p44 t3 v4) else C_X4_senses_p45 (C_X4_senses_p9 n) t x1 x2 else C_X4_senses_p45 (C_X4_senses_p9 n) t x1 x2
def C_X4_senses_p4 (t : CS) (y0 : Nat) : Option (Except Nat Nat × CS) := C_X4_senses_p9 fu t y0 (0 : Int32) (1 : Int32)
def C_X4_senses (t : CS)  : Option (Except Nat Nat × CS) := ngt (8 : Int32) (lt1 (dnew t (.inl (0, (8 : Int32).toNatClampNeg, .inl (fun _ => 0))) (8 : Int32).toNatClampNeg) fun t1 => (C_X4_senses_p4 t1 (t.2.2.2 0)))
def C_X14_init_n_n (t : CS) (x0 : Nat) (x1 : Int32) (x4 : Int32) (x5 : Int32) : Option CS := bd1 (J_J6_init t x0) fun v1 => (bd1 (dpf t x0 14 0 (.int x1)) fun t2 => (bd1 (dpf t2 x0 14 1 (.null)) fun t3 => (bd1 (dpf t3 x0 14 2 (.null)) fun t4 => (bd1 (dpf t4 x0 14 3 (.int x4)) fun t5 => (bd1 (dpf t5 x0 14 4 (.int x5)) fun t6 => (some t6))))))
def C_X4_behind_p11 (t : CS) (y0 : Int32) : Option (Except Nat Int32 × CS) := some (.ok y0, t)
def C_X4_behind_p5 (t : CS) (x2 : Int32) (x3 : Int32) : Option (Except Nat Int32 × CS) := bdx (C_X4_number t x2 x3) fun v2 t1 => (C_X4_behind_p11 t1 v2)
def C_X4_behind (t : CS) (x1 : Int32) (x2 : Int32) (x3 : Int32) : Option (Except Nat Int32 × CS) := bdx (C_X4_want t x1) fun v2 t1 => (C_X4_behind_p5 t1 x2 x3)
def C_X14_init (t : CS) (x0 : Nat) (x1 : Int32) (x2 : Nat) (x3 : Nat) (x4 : Int32) (x5 : Int32) : Option CS := bd1 (J_J6_init t x0) fun v1 => (bd1 (dpf t x0 14 0 (.int x1)) fun t2 => (bd1 (dpf t2 x0 14 1 (.ref x2)) fun t3 => (bd1 (dpf t3 x0 14 2 (.ref x3)) fun t4 => (bd1 (dpf t4 x0 14 3 (.int x4)) fun t5 => (bd1 (dpf t5 x0 14 4 (.int x5)) fun t6 => (some t6))))))
def C_X4_doing_p77 (t : CS) (x1 : Int32) (y0 : Nat) (y1 : Nat) (y2 : Int32) (y3 : Nat) (y5 : Int32) : Option (Except Nat Nat × CS) := bd1 (C_X14_init_n t y1 y2 y3 y5 x1) fun t1 => (some (.ok y0, t1))
def C_X4_doing_p60 (t : CS) (x1 : Int32) (x2 : Nat) (y0 : Nat) : Option (Except Nat Nat × CS) := bdx (C_X4_behind t (213 : Int32) (0 : Int32) (9 : Int32)) fun v2 t1 => (C_X4_doing_p77 t1 x1 y0 y0 (t.1 200 7) x2 v2)
def C_X4_doing_p56 (t : CS) (x1 : Int32) (y0 : Nat) : Option (Except Nat Nat × CS) := lt1 (dnew t (.inr (14, [.int 0, .null, .null, .int 0, .int 0])) 5) fun t1 => (C_X4_doing_p60 t1 x1 y0 (t.2.2.2 0))
def C_X4_doing_p94 (t : CS) (x1 : Int32) (y0 : Nat) (y1 : Nat) (y2 : Int32) (y3 : Nat) : Option (Except Nat Nat × CS) := bd1 (C_X14_init_n t y1 y2 y3 (0 : Int32) x1) fun t1 => (some (.ok y0, t1))
def C_X4_doing_p85 (t : CS) (x1 : Int32) (y0 : Nat) : Option (Except Nat Nat × CS) := bdx (C_X4_senses t) fun v2 t1 => (C_X4_doing_p94 t1 x1 y0 y0 (t.1 200 7) v2)
def C_X4_doing_p126 (t : CS) (x1 : Int32) (y0 : Nat) (y1 : Nat) (y2 : Int32) (y3 : Nat) (y4 : Nat) : Option (Except Nat Nat × CS) := bd1 (C_X14_init t y1 y2 y3 y4 (0 : Int32) x1) fun t1 => (some (.ok y0, t1))
def C_X4_doing_p116 (t : CS) (x1 : Int32) (x2 : Nat) (y0 : Nat) : Option (Except Nat Nat × CS) := bdx (C_X4_letters t) fun v2 t1 => (C_X4_doing_p126 t1 x1 y0 y0 (t.1 200 7) x2 v2)
def C_X4_doing_p113 (t : CS) (x1 : Int32) (x2 : Nat) : Option (Except Nat Nat × CS) := lt1 (dnew t (.inr (14, [.int 0, .null, .null, .int 0, .int 0])) 5) fun t1 => (C_X4_doing_p116 t1 x1 x2 (t.2.2.2 0))
def C_X4_doing_p105 (t : CS) (x1 : Int32) (y0 : Nat) : Option (Except Nat Nat × CS) := bdx (C_X4_want t (214 : Int32)) fun v2 t1 => (C_X4_doing_p113 t1 x1 y0)
def C_X4_doing_p144 (t : CS) (x1 : Int32) (y0 : Nat) (y1 : Nat) (y2 : Int32) (y3 : Nat) : Option (Except Nat Nat × CS) := bd1 (C_X14_init_n t y1 y2 y3 (0 : Int32) x1) fun t1 => (some (.ok y0, t1))
def C_X4_doing_p135 (t : CS) (x1 : Int32) (y0 : Nat) : Option (Except Nat Nat × CS) := bdx (C_X4_letters t) fun v2 t1 => (C_X4_doing_p144 t1 x1 y0 y0 (t.1 200 7) v2)
def C_X4_doing_p176 (t : CS) (x1 : Int32) (y0 : Nat) (y1 : Nat) (y2 : Int32) (y3 : Nat) (y5 : Int32) : Option (Except Nat Nat × CS) := bd1 (C_X14_init_n t y1 y2 y3 y5 x1) fun t1 => (some (.ok y0, t1))
def C_X4_doing_p159 (t : CS) (x1 : Int32) (x2 : Nat) (y0 : Nat) : Option (Except Nat Nat × CS) := bdx (C_X4_behind t (215 : Int32) (1 : Int32) (99 : Int32)) fun v2 t1 => (C_X4_doing_p176 t1 x1 y0 y0 (t.1 200 7) x2 v2)
def C_X4_doing_p155 (t : CS) (x1 : Int32) (y0 : Nat) : Option (Except Nat Nat × CS) := lt1 (dnew t (.inr (14, [.int 0, .null, .null, .int 0, .int 0])) 5) fun t1 => (C_X4_doing_p159 t1 x1 y0 (t.2.2.2 0))
def C_X4_doing_p186 (t : CS) (y0 : Nat) : Option (Except Nat Nat × CS) := some (.ok y0, t)
def C_X4_doing_p204 (t : CS) (x1 : Int32) (y0 : Nat) (y1 : Nat) (y2 : Int32) (y5 : Int32) : Option (Except Nat Nat × CS) := bd1 (C_X14_init_n_n t y1 y2 y5 x1) fun t1 => (some (.ok y0, t1))
def C_X4_doing_p190 (t : CS) (x1 : Int32) (y0 : Nat) : Option (Except Nat Nat × CS) := bdx (C_X4_number t (0 : Int32) (7 : Int32)) fun v2 t1 => (C_X4_doing_p204 t1 x1 y0 y0 (t.1 200 7) v2)
def C_X4_doing_p226 (t : CS) (x1 : Int32) (y0 : Nat) (y1 : Nat) (y2 : Int32) (y5 : Int32) : Option (Except Nat Nat × CS) := bd1 (C_X14_init_n_n t y1 y2 y5 x1) fun t1 => (some (.ok y0, t1))
def C_X4_doing_p212 (t : CS) (x1 : Int32) (y0 : Nat) : Option (Except Nat Nat × CS) := bdx (C_X4_number t (1 : Int32) (99 : Int32)) fun v2 t1 => (C_X4_doing_p226 t1 x1 y0 y0 (t.1 200 7) v2)
def C_X4_doing (t : CS) (x1 : Int32) : Option (Except Nat Nat × CS) := lt1 (t.1 200 7) fun v1 => (if v1 = (204 : Int32) then bdx (C_X4_letters t) fun v3 t2 => (C_X4_doing_p56 t2 x1 v3) else if v1 = (205 : Int32) then lt1 (dnew t (.inr (14, [.int 0, .null, .null, .int 0, .int 0])) 5) fun t5 => (C_X4_doing_p85 t5 x1 (t.2.2.2 0)) else if v1 = (206 : Int32) then bdx (C_X4_letters t) fun v7 t6 => (C_X4_doing_p105 t6 x1 v7) else if v1 = (207 : Int32) then lt1 (dnew t (.inr (14, [.int 0, .null, .null, .int 0, .int 0])) 5) fun t10 => (C_X4_doing_p135 t10 x1 (t.2.2.2 0)) else if v1 = (208 : Int32) then lt1 (dnew t (.inr (14, [.int 0, .null, .null, .int 0, .int 0])) 5) fun t11 => (C_X4_doing_p135 t11 x1 (t.2.2.2 0)) else if v1 = (209 : Int32) then bdx (C_X4_letters t) fun v13 t12 => (C_X4_doing_p155 t12 x1 v13) else if v1 = (210 : Int32) then bdx (C_X4_sign t x1) fun v16 t15 => (C_X4_doing_p186 t15 v16) else if v1 = (211 : Int32) then lt1 (dnew t (.inr (14, [.int 0, .null, .null, .int 0, .int 0])) 5) fun t18 => (C_X4_doing_p190 t18 x1 (t.2.2.2 0)) else lt1 (dnew t (.inr (14, [.int 0, .null, .null, .int 0, .int 0])) 5) fun t19 => (C_X4_doing_p212 t19 x1 (t.2.2.2 0)))
def C_X4_clause_p41 (t : CS) (y0 : Nat) (y1 : Nat) : Option (Except Nat Unit × CS) := bd1 (dpf t y0 5 0 (.ref y1)) fun t1 => (some (.ok (), t1))
def C_X4_clause_p52 (t : CS) (y0 : Nat) (y1 : Nat) : Option (Except Nat Unit × CS) := bd1 (dpf t y0 5 1 (.ref y1)) fun t1 => (some (.ok (), t1))
def C_X4_clause_p63 (t : CS) (y0 : Nat) (y1 : Nat) : Option (Except Nat Unit × CS) := bd1 (dpf t y0 5 3 (.ref y1)) fun t1 => (some (.ok (), t1))
def C_X4_clause_p74 (t : CS) (y0 : Nat) (y1 : Nat) : Option (Except Nat Unit × CS) := bd1 (dpf t y0 5 2 (.ref y1)) fun t1 => (some (.ok (), t1))
def C_X4_clause_p95 (t : CS) (y0 : Int32) : Option (Except Nat Unit × CS) := some (.ok (), t)
def C_X4_clause_p92 (t : CS) (y0 : Nat) (y1 : Nat) : Option (Except Nat Unit × CS) := ckC t y0 15 (bd2 (J_J9_add t y0 y1) fun v3 t2 => (C_X4_clause_p95 t2 v3))
def C_X4_clause (t : CS) (x1 : Nat) : Option (Except Nat Unit × CS) := lt1 (t.1 200 7) fun v1 => (if v1 = (200 : Int32) then bdx (C_X4_either t) fun v3 t2 => (C_X4_clause_p41 t2 x1 v3) else if v1 = (201 : Int32) then bdx (C_X4_either t) fun v6 t5 => (C_X4_clause_p52 t5 x1 v6) else if v1 = (202 : Int32) then bdx (C_X4_sum (C_X4_one 64) t) fun v9 t8 => (C_X4_clause_p63 t8 x1 v9) else if v1 = (203 : Int32) then bdx (C_X4_either t) fun v12 t11 => (C_X4_clause_p74 t11 x1 v12) else bd1 (gR t x1 5 5) fun v14 => (bd1 (gI t x1 5 4) fun v15 => (bdx (C_X4_doing t v15) fun v17 t16 => (C_X4_clause_p92 t16 v14 v17))))
def C_X4_read_p47 (t : CS) (y0 : Nat) : Option (Except Nat Nat × CS) := ckW t y0 (some (.error y0, t))
def C_X4_read_p42 (t : CS)  : Option (Except Nat Nat × CS) := bd2 (C_wrong t (1 : Int32)) fun v2 t1 => (C_X4_read_p47 t1 v2)
def C_X4_read_p129 (t : CS) (y0 : Nat) : Option (Except Nat Nat × CS) := ckW t y0 (some (.error y0, t))
def C_X4_read_p124 (t : CS)  : Option (Except Nat Nat × CS) := bd2 (C_wrong t (4 : Int32)) fun v2 t1 => (C_X4_read_p129 t1 v2)
def C_X4_read_p145 (t : CS) (y0 : Nat) : Option (Except Nat Nat × CS) := ckW t y0 (some (.error y0, t))
def C_X4_read_p161 (k12 : CS → Nat → Option (Except Nat Nat × CS)) (t : CS) (x1 : Nat) : Option (Except Nat Nat × CS) := bd1 (gI t x1 5 4) fun v1 => (bd1 (dpf t x1 5 4 (.int (v1 + (1 : Int32)))) fun t2 => (k12 t2 x1))
def C_X4_read_p155 (k12 : CS → Nat → Option (Except Nat Nat × CS)) (t : CS) (x1 : Nat) : Option (Except Nat Nat × CS) := bdx (C_X4_want t (59 : Int32)) fun v2 t1 => (C_X4_read_p161 k12 t1 x1)
def C_X4_read_p130 (k12 : CS → Nat → Option (Except Nat Nat × CS)) (t : CS) (x1 : Nat) : Option (Except Nat Nat × CS) := bd1 (gI t x1 5 4) fun v1 => (if v1 = (24 : Int32) then bd2 (C_wrong t (6 : Int32)) fun v7 t6 => (C_X4_read_p145 t6 v7) else bd1 (C_X4_next t) fun t2 => (bdx (C_X4_clause t2 x1) fun v4 t3 => (C_X4_read_p155 k12 t3 x1)))
def C_X4_read_p107 (k12 : CS → Nat → Option (Except Nat Nat × CS)) (t : CS) (x1 : Nat) : Option (Except Nat Nat × CS) := if (t.1 200 7) = (203 : Int32) then bd1 (gO t x1 5 2) fun v1 => (on1 v1 (C_X4_read_p130 k12 t x1) fun r2 => C_X4_read_p124 t) else C_X4_read_p130 k12 t x1
def C_X4_read_p90 (k12 : CS → Nat → Option (Except Nat Nat × CS)) (t : CS) (x1 : Nat) : Option (Except Nat Nat × CS) := if (t.1 200 7) = (202 : Int32) then bd1 (gO t x1 5 3) fun v1 => (on1 v1 (C_X4_read_p107 k12 t x1) fun r2 => C_X4_read_p124 t) else C_X4_read_p107 k12 t x1
def C_X4_read_p73 (k12 : CS → Nat → Option (Except Nat Nat × CS)) (t : CS) (x1 : Nat) : Option (Except Nat Nat × CS) := if (t.1 200 7) = (201 : Int32) then bd1 (gO t x1 5 1) fun v1 => (on1 v1 (C_X4_read_p90 k12 t x1) fun r2 => C_X4_read_p124 t) else C_X4_read_p90 k12 t x1
def C_X4_read_p12 : Nat → CS → Nat → Option (Except Nat Nat × CS)
  | 0, _, _ => none
  | n + 1, t, x1 => if (t.1 200 4) = (301 : Int32) then some (.ok x1, t) else if (t.1 200 4) < (200 : Int32) then C_X4_read_p42 t else if (t.1 200 4) ≤ (212 : Int32) then lt1 (ci_ t 200 7 (t.1 200 4)) fun t1 => (if (t1.1 200 7) = (200 : Int32) then bd1 (gO t1 x1 5 0) fun v2 => (on1 v2 (C_X4_read_p73 (C_X4_read_p12 n) t1 x1) fun r3 => C_X4_read_p124 t1) else C_X4_read_p73 (C_X4_read_p12 n) t1 x1) else C_X4_read_p42 t
def C_X4_read_p7 (t : CS) (y0 : Nat) : Option (Except Nat Nat × CS) := bd1 (C_X4_next t) fun t1 => (C_X4_read_p12 fu t1 y0)
def C_X4_read_p3 (t : CS) (y0 : Nat) : Option (Except Nat Nat × CS) := bd1 (C_X5_init t y0) fun t1 => (C_X4_read_p7 t1 y0)
def C_X4_read (t : CS)  : Option (Except Nat Nat × CS) := lt1 (dnew t (.inr (5, [.null, .null, .null, .null, .int 0, .null])) 6) fun t1 => (C_X4_read_p3 t1 (t.2.2.2 0))
def J_J0_rangeCheck (x0 : Int32) (x1 : Int32) (x2 : Int32) : Option Unit := if x1 ≤ x2 then if (0 : Int32) ≤ x1 then if x2 ≤ x0 then some () else none else none else none
