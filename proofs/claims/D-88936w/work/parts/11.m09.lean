/-! M's methods, printed by tool/genm.py -/
def fm_goesTo_l101 (a1 : Int32) (t21 : mS × Int32) : Option ((mS × Int32) ⊕ (mS)) :=
  (if a1 < t21.2 then
  some (.inr t21.1)
  else
  (fm_quarter t21.1 t21.2).bind fun x25 =>
  some (.inl (x25, (t21.2 + (1 : Int32)))))
def fm_goesTo_l66  (t13 : mS × Int32) : Option ((mS × Int32) ⊕ (mS)) :=
  (if (12 : Int32) ≤ t13.2 then
  some (.inr t13.1)
  else
  (tI t13.1 69 t13.2 (0 : Int32)).bind fun x17 =>
  (tI x17 70 t13.2 (0 : Int32)).bind fun x18 =>
  (tI x18 71 t13.2 (0 : Int32)).bind fun x19 =>
  some (.inl (x19, (t13.2 + (1 : Int32)))))
def fm_goesTo_l2  (t1 : mS × Int32) : Option ((mS × Int32) ⊕ (mS)) :=
  (if (8 : Int32) ≤ t1.2 then
  some (.inr t1.1)
  else
  (tZ t1.1 59 t1.2 (0 : Int32)).bind fun x5 =>
  (tZ x5 60 t1.2 (0 : Int32)).bind fun x6 =>
  (tZ x6 61 t1.2 (0 : Int32)).bind fun x7 =>
  (tI x7 62 t1.2 (0 : Int32)).bind fun x8 =>
  (tI x8 65 t1.2 (-4 : Int32)).bind fun x9 =>
  (tI x9 67 t1.2 (0 : Int32)).bind fun x10 =>
  (tI x10 68 t1.2 (0 : Int32)).bind fun x11 =>
  some (.inl (x11, (t1.2 + (1 : Int32)))))
def fm_goesTo (S : mS) (a1 : Int32) : Option mS :=
  (loopO fm_goesTo_l2 1000000 (S, (0 : Int32))).bind (fun z3 =>
  (loopO fm_goesTo_l66 1000000 (z3, (0 : Int32))).bind (fun z15 =>
  (loopO (fm_goesTo_l101 a1) 1000000 (z15, (0 : Int32))).bind (fun z23 =>
  some z23)))
set_option maxHeartbeats 4000000 in
set_option maxRecDepth 100000 in
theorem cm_goesTo (l : Launch) (G : mGh) (hG : mOk G) (S : mS) (a1 : Int32) {S' : mS} (hr : fm_goesTo S a1 = some S') : Met l yX3_goesTo (ws_ yX3_goesTo cX3_goesTo 3 none) ({ frames := 6, cells := 0, slots := 0, locals := 144 } : Room) (mPc G [.int a1] S) (mQv G S') 0 0 (zA G) := by
  refine m_met cX3_goesTo (by decide) rfl hG (Nat.le_of_ble_eq_true rfl) (fun p e s m args below meth c C hret hlk ls hX hl => ?_)
  have hx := C.1.1
  have hb := C.1.2.1
  have hown := C.1.2.2.2.1
  have hts := C.1.2.2.2.2
  have hS : va_S (zA G) s.heap s.heap [] := va_S.rf
  have hl : lv_has ls 3 [(0, .ref (zh G)), (1, .int a1)] := hl
  unfold fm_goesTo at hr
  refine lv_iconst (v := 0) hx hb dX3_goesTo_0 (by decide) ?_
  refine lv_istore_n (lv' := [(2, .int (0 : Int32)), (0, .ref (zh G)), (1, .int a1)]) hx hb dX3_goesTo_1 rfl hl (by decide) rfl (fun ls hl => ?_)
  obtain ⟨z3, e3, hr⟩ := ob hr
  refine m_join (I := fun (_ : Unit) H locs ls => mX G z3 H ∧ va_S (zA G) s.heap H locs ∧ lv_has ls 3 [(0, .ref (zh G)), (1, .int a1)]) 64 (fun _ => []) (fun _ H locs ls hi => ?_) (fun J1_64 => ?_)
  · obtain ⟨hX, hS, hl⟩ := hi
    refine lv_iconst (v := 0) hx hb dX3_goesTo_64 (by decide) ?_
    refine lv_istore_n (lv' := [(2, .int (0 : Int32)), (0, .ref (zh G)), (1, .int a1)]) hx hb dX3_goesTo_65 rfl hl (by decide) rfl (fun ls hl => ?_)
    obtain ⟨z15, e15, hr⟩ := ob hr
    refine m_join (I := fun (_ : Unit) H locs ls => mX G z15 H ∧ va_S (zA G) s.heap H locs ∧ lv_has ls 3 [(0, .ref (zh G)), (1, .int a1)]) 99 (fun _ => []) (fun _ H locs ls hi => ?_) (fun J13_99 => ?_)
    · obtain ⟨hX, hS, hl⟩ := hi
      refine lv_iconst (v := 0) hx hb dX3_goesTo_99 (by decide) ?_
      refine lv_istore_n (lv' := [(2, .int (0 : Int32)), (0, .ref (zh G)), (1, .int a1)]) hx hb dX3_goesTo_100 rfl hl (by decide) rfl (fun ls hl => ?_)
      obtain ⟨z23, e23, hr⟩ := ob hr
      refine m_join (I := fun (_ : Unit) H locs ls => mX G z23 H ∧ va_S (zA G) s.heap H locs ∧ lv_has ls 3 []) 117 (fun _ => []) (fun _ H locs ls hi => ?_) (fun J21_117 => ?_)
      · obtain ⟨hX, hS, hl⟩ := hi
        exact m_rvw (C := C) hret hlk hX hS (Option.some.inj hr) dX3_goesTo_117
      refine m_loop e23 (fun (t21 : mS × Int32) H locs ls => mX G t21.1 H ∧ va_S (zA G) s.heap H locs ∧ lv_has ls 3 [(0, .ref (zh G)), (1, .int a1), (2, .int t21.2)]) 101 ⟨hX, hS, lv_sub hl [1, 2, 0] rfl⟩ (fun t21 y21 b21 w21 k21 H locs ls hi => ?_)
      obtain ⟨hX, hS, hl⟩ := hi
      unfold fm_goesTo_l101 at b21
      refine lv_iload_n hx hb dX3_goesTo_101 rfl (lv_at hl 2 rfl) ?_
      refine lv_iload_n hx hb dX3_goesTo_102 rfl (lv_at hl 1 rfl) ?_
      refine lv_icmp_gt (tgt := 117) hx hb dX3_goesTo_103 (by decide) (fun c24 => ?_) (fun c24 => ?_)
      · replace b21 := it c24 b21
        replace b21 := lx b21 w21
        subst b21
        exact J21_117 () _ _ ls ⟨hX, hS, lv_sub hl [] rfl⟩
      · replace b21 := ie c24 b21
        refine lv_aload_n hx hb dX3_goesTo_106 rfl (lv_at hl 0 rfl) ?_
        refine lv_iload_n hx hb dX3_goesTo_107 rfl (lv_at hl 2 rfl) ?_
        obtain ⟨x25, e25, b21⟩ := ob b21
        refine m_cvv (As := [.int t21.2]) (rest := []) C hX hS hl.1 (cm_quarter l G hG t21.1 t21.2 e25) (cwV 1 hts (lw_V q2305 q2307 qs90 q109 q2308) rfl rfl rfl (by decide +kernel) ⟨Nat.le_of_ble_eq_true rfl, Nat.le_of_ble_eq_true rfl⟩) rfl rfl (Nat.le_of_ble_eq_true rfl) dX3_goesTo_108 (fun H locs hX hS => ?_)
        refine lv_iinc (v := (t21.2 + (1 : Int32))) (k := 2) (lv' := [(2, .int (t21.2 + (1 : Int32))), (0, .ref (zh G)), (1, .int a1)]) hx hb dX3_goesTo_111 hl rfl rfl (by decide) rfl (fun ls hl => ?_)
        refine lv_goto (tgt := 101) hx hb dX3_goesTo_114 (by decide) ?_
        obtain ⟨g26, hg26⟩ : ∃ g, g = (t21.2 + (1 : Int32)) := ⟨_, rfl⟩
        rw [← hg26] at hl b21
        exact k21 _ (Option.some.inj b21).symm _ _ ls ⟨hX, hS, lv_sub hl [1, 2, 0] rfl⟩
    refine m_loop e15 (fun (t13 : mS × Int32) H locs ls => mX G t13.1 H ∧ va_S (zA G) s.heap H locs ∧ lv_has ls 3 [(0, .ref (zh G)), (1, .int a1), (2, .int t13.2)]) 66 ⟨hX, hS, lv_sub hl [1, 2, 0] rfl⟩ (fun t13 y13 b13 w13 k13 H locs ls hi => ?_)
    obtain ⟨hX, hS, hl⟩ := hi
    unfold fm_goesTo_l66 at b13
    refine lv_iload_n hx hb dX3_goesTo_66 rfl (lv_at hl 2 rfl) ?_
    refine lv_bipush (v := 12) hx hb dX3_goesTo_67 (by decide) ?_
    refine lv_icmp_ge (tgt := 99) hx hb dX3_goesTo_69 (by decide) (fun c16 => ?_) (fun c16 => ?_)
    · replace b13 := it c16 b13
      replace b13 := lx b13 w13
      subst b13
      exact J13_99 () _ _ ls ⟨hX, hS, lv_sub hl [0, 1] rfl⟩
    · replace b13 := ie c16 b13
      refine lv_aload_n hx hb dX3_goesTo_72 rfl (lv_at hl 0 rfl) ?_
      refine m_ga (k := 69) (d := 0) C q1767 rfl (by decide) hX dX3_goesTo_73 ?_
      refine lv_iload_n hx hb dX3_goesTo_76 rfl (lv_at hl 2 rfl) ?_
      refine lv_iconst (v := 0) hx hb dX3_goesTo_77 (by decide) ?_
      obtain ⟨x17, e17, b13⟩ := ob b13
      refine m_is (k := 69) C rfl hX hS e17 dX3_goesTo_78 (fun H locs hX hS => ?_)
      refine lv_aload_n hx hb dX3_goesTo_79 rfl (lv_at hl 0 rfl) ?_
      refine m_ga (k := 70) (d := 0) C q1768 rfl (by decide) hX dX3_goesTo_80 ?_
      refine lv_iload_n hx hb dX3_goesTo_83 rfl (lv_at hl 2 rfl) ?_
      refine lv_iconst (v := 0) hx hb dX3_goesTo_84 (by decide) ?_
      obtain ⟨x18, e18, b13⟩ := ob b13
      refine m_is (k := 70) C rfl hX hS e18 dX3_goesTo_85 (fun H locs hX hS => ?_)
      refine lv_aload_n hx hb dX3_goesTo_86 rfl (lv_at hl 0 rfl) ?_
      refine m_ga (k := 71) (d := 0) C q1769 rfl (by decide) hX dX3_goesTo_87 ?_
      refine lv_iload_n hx hb dX3_goesTo_90 rfl (lv_at hl 2 rfl) ?_
      refine lv_iconst (v := 0) hx hb dX3_goesTo_91 (by decide) ?_
      obtain ⟨x19, e19, b13⟩ := ob b13
      refine m_is (k := 71) C rfl hX hS e19 dX3_goesTo_92 (fun H locs hX hS => ?_)
      refine lv_iinc (v := (t13.2 + (1 : Int32))) (k := 2) (lv' := [(2, .int (t13.2 + (1 : Int32))), (0, .ref (zh G)), (1, .int a1)]) hx hb dX3_goesTo_93 hl rfl rfl (by decide) rfl (fun ls hl => ?_)
      refine lv_goto (tgt := 66) hx hb dX3_goesTo_96 (by decide) ?_
      obtain ⟨g20, hg20⟩ : ∃ g, g = (t13.2 + (1 : Int32)) := ⟨_, rfl⟩
      rw [← hg20] at hl b13
      exact k13 _ (Option.some.inj b13).symm _ _ ls ⟨hX, hS, lv_sub hl [1, 2, 0] rfl⟩
  refine m_loop e3 (fun (t1 : mS × Int32) H locs ls => mX G t1.1 H ∧ va_S (zA G) s.heap H locs ∧ lv_has ls 3 [(0, .ref (zh G)), (1, .int a1), (2, .int t1.2)]) 2 ⟨hX, hS, lv_sub hl [1, 2, 0] rfl⟩ (fun t1 y1 b1 w1 k1 H locs ls hi => ?_)
  obtain ⟨hX, hS, hl⟩ := hi
  unfold fm_goesTo_l2 at b1
  refine lv_iload_n hx hb dX3_goesTo_2 rfl (lv_at hl 2 rfl) ?_
  refine lv_bipush (v := 8) hx hb dX3_goesTo_3 (by decide) ?_
  refine lv_icmp_ge (tgt := 64) hx hb dX3_goesTo_5 (by decide) (fun c4 => ?_) (fun c4 => ?_)
  · replace b1 := it c4 b1
    replace b1 := lx b1 w1
    subst b1
    exact J1_64 () _ _ ls ⟨hX, hS, lv_sub hl [0, 1] rfl⟩
  · replace b1 := ie c4 b1
    refine lv_aload_n hx hb dX3_goesTo_8 rfl (lv_at hl 0 rfl) ?_
    refine m_ga (k := 59) (d := 1) C q1757 rfl (by decide) hX dX3_goesTo_9 ?_
    refine lv_iload_n hx hb dX3_goesTo_12 rfl (lv_at hl 2 rfl) ?_
    refine lv_iconst (v := 0) hx hb dX3_goesTo_13 (by decide) ?_
    obtain ⟨x5, e5, b1⟩ := ob b1
    refine m_zs (k := 59) C rfl hX hS e5 dX3_goesTo_14 (fun H locs hX hS => ?_)
    refine lv_aload_n hx hb dX3_goesTo_15 rfl (lv_at hl 0 rfl) ?_
    refine m_ga (k := 60) (d := 1) C q1758 rfl (by decide) hX dX3_goesTo_16 ?_
    refine lv_iload_n hx hb dX3_goesTo_19 rfl (lv_at hl 2 rfl) ?_
    refine lv_iconst (v := 0) hx hb dX3_goesTo_20 (by decide) ?_
    obtain ⟨x6, e6, b1⟩ := ob b1
    refine m_zs (k := 60) C rfl hX hS e6 dX3_goesTo_21 (fun H locs hX hS => ?_)
    refine lv_aload_n hx hb dX3_goesTo_22 rfl (lv_at hl 0 rfl) ?_
    refine m_ga (k := 61) (d := 1) C q1759 rfl (by decide) hX dX3_goesTo_23 ?_
    refine lv_iload_n hx hb dX3_goesTo_26 rfl (lv_at hl 2 rfl) ?_
    refine lv_iconst (v := 0) hx hb dX3_goesTo_27 (by decide) ?_
    obtain ⟨x7, e7, b1⟩ := ob b1
    refine m_zs (k := 61) C rfl hX hS e7 dX3_goesTo_28 (fun H locs hX hS => ?_)
    refine lv_aload_n hx hb dX3_goesTo_29 rfl (lv_at hl 0 rfl) ?_
    refine m_ga (k := 62) (d := 0) C q1760 rfl (by decide) hX dX3_goesTo_30 ?_
    refine lv_iload_n hx hb dX3_goesTo_33 rfl (lv_at hl 2 rfl) ?_
    refine lv_iconst (v := 0) hx hb dX3_goesTo_34 (by decide) ?_
    obtain ⟨x8, e8, b1⟩ := ob b1
    refine m_is (k := 62) C rfl hX hS e8 dX3_goesTo_35 (fun H locs hX hS => ?_)
    refine lv_aload_n hx hb dX3_goesTo_36 rfl (lv_at hl 0 rfl) ?_
    refine m_ga (k := 65) (d := 0) C q1763 rfl (by decide) hX dX3_goesTo_37 ?_
    refine lv_iload_n hx hb dX3_goesTo_40 rfl (lv_at hl 2 rfl) ?_
    refine lv_bipush (v := -4) hx hb dX3_goesTo_41 (by decide) ?_
    obtain ⟨x9, e9, b1⟩ := ob b1
    refine m_is (k := 65) C rfl hX hS e9 dX3_goesTo_43 (fun H locs hX hS => ?_)
    refine lv_aload_n hx hb dX3_goesTo_44 rfl (lv_at hl 0 rfl) ?_
    refine m_ga (k := 67) (d := 0) C q1765 rfl (by decide) hX dX3_goesTo_45 ?_
    refine lv_iload_n hx hb dX3_goesTo_48 rfl (lv_at hl 2 rfl) ?_
    refine lv_iconst (v := 0) hx hb dX3_goesTo_49 (by decide) ?_
    obtain ⟨x10, e10, b1⟩ := ob b1
    refine m_is (k := 67) C rfl hX hS e10 dX3_goesTo_50 (fun H locs hX hS => ?_)
    refine lv_aload_n hx hb dX3_goesTo_51 rfl (lv_at hl 0 rfl) ?_
    refine m_ga (k := 68) (d := 0) C q1766 rfl (by decide) hX dX3_goesTo_52 ?_
    refine lv_iload_n hx hb dX3_goesTo_55 rfl (lv_at hl 2 rfl) ?_
    refine lv_iconst (v := 0) hx hb dX3_goesTo_56 (by decide) ?_
    obtain ⟨x11, e11, b1⟩ := ob b1
    refine m_is (k := 68) C rfl hX hS e11 dX3_goesTo_57 (fun H locs hX hS => ?_)
    refine lv_iinc (v := (t1.2 + (1 : Int32))) (k := 2) (lv' := [(2, .int (t1.2 + (1 : Int32))), (0, .ref (zh G)), (1, .int a1)]) hx hb dX3_goesTo_58 hl rfl rfl (by decide) rfl (fun ls hl => ?_)
    refine lv_goto (tgt := 2) hx hb dX3_goesTo_61 (by decide) ?_
    obtain ⟨g12, hg12⟩ : ∃ g, g = (t1.2 + (1 : Int32)) := ⟨_, rfl⟩
    rw [← hg12] at hl b1
    exact k1 _ (Option.some.inj b1).symm _ _ ls ⟨hX, hS, lv_sub hl [1, 2, 0] rfl⟩

def fm_went (S : mS) (a1 : Int32) (a2 : Int32) : Option (mS × Int32) :=
  (if (fm_in a1.toInt64 (0 : Int64) (((gI S 54) - (1 : Int32)).toInt64)) = 0 then
  some (S, (-1 : Int32))
  else
  (if (fm_in a2.toInt64 (0 : Int64) (6 : Int64)) = 0 then
  some (S, (-1 : Int32))
  else
  (fm_goesTo S (95 : Int32)).bind fun x3 =>
  if a2 = (0 : Int32) then
  (aI x3 60 a1).bind fun x5 =>
  (if x5 = 0 then
  some (x3, (-5 : Int32))
  else
  (aI x3 63 a1).bind fun x7 =>
  some (x3, x7))
  else if a2 = (1 : Int32) then
  (aI x3 60 a1).bind fun x9 =>
  (if x9 = 0 then
  some (x3, (-5 : Int32))
  else
  (aI x3 66 a1).bind fun x11 =>
  some (x3, x11))
  else if a2 = (2 : Int32) then
  (aI x3 61 a1).bind fun x13 =>
  (if x13 = 0 then
  some (x3, (0 : Int32))
  else
  some (x3, (1 : Int32)))
  else if a2 = (3 : Int32) then
  (aI x3 67 a1).bind fun x16 =>
  some (x3, x16)
  else if a2 = (4 : Int32) then
  (aI x3 68 a1).bind fun x18 =>
  some (x3, x18)
  else if a2 = (5 : Int32) then
  (aI x3 62 a1).bind fun x20 =>
  some (x3, x20)
  else 
  (aI x3 63 a1).bind fun x21 =>
  some (x3, x21)))
set_option maxHeartbeats 4000000 in
set_option maxRecDepth 100000 in
theorem cm_went (l : Launch) (G : mGh) (hG : mOk G) (S : mS) (a1 : Int32) (a2 : Int32) {S' : mS} {r : Int32} (hr : fm_went S a1 a2 = some (S', r)) : Met l yX3_went (ws_ yX3_went cX3_went 3 (some .int)) ({ frames := 7, cells := 0, slots := 0, locals := 166 } : Room) (mPc G [.int a1, .int a2] S) (mQi G r S') 0 0 (zA G) := by
  refine m_met cX3_went (by decide) rfl hG (Nat.le_of_ble_eq_true rfl) (fun p e s m args below meth c C hret hlk ls hX hl => ?_)
  have hx := C.1.1
  have hb := C.1.2.1
  have hown := C.1.2.2.2.1
  have hts := C.1.2.2.2.2
  have hS : va_S (zA G) s.heap s.heap [] := va_S.rf
  have hl : lv_has ls 3 [(0, .ref (zh G)), (1, .int a1), (2, .int a2)] := hl
  unfold fm_went at hr
  refine lv_iload_n hx hb dX3_went_0 rfl (lv_at hl 1 rfl) ?_
  refine lv_i2l (v := a1.toInt64) hx hb dX3_went_1 rfl ?_
  refine lv_lconst (v := 0) hx hb dX3_went_2 (by decide) ?_
  refine lv_aload_n hx hb dX3_went_3 rfl (lv_at hl 0 rfl) ?_
  refine m_gi (k := 54) C q1752 rfl hX dX3_went_4 ?_
  refine lv_iconst (v := 1) hx hb dX3_went_7 (by decide) ?_
  refine lv_isub hx hb dX3_went_8 ?_
  refine lv_i2l (v := ((gI S 54) - (1 : Int32)).toInt64) hx hb dX3_went_9 rfl ?_
  refine m_csi (As := [.long a1.toInt64, .long (0 : Int64), .long (((gI S 54) - (1 : Int32)).toInt64)]) (rest := []) C hX hS hl.1 (cm_in l a1.toInt64 (0 : Int64) (((gI S 54) - (1 : Int32)).toInt64) rfl) (va_cwS 3 hts (lw_S q1974 q1975 q109 q1976) rfl rfl rfl (by decide +kernel) ⟨Nat.le_of_ble_eq_true rfl, Nat.le_of_ble_eq_true rfl⟩) rfl rfl (Nat.le_of_ble_eq_true rfl) dX3_went_10 (fun H locs hX hS => ?_)
  refine lv_if_eq (tgt := 28) hx hb dX3_went_13 (by decide) (fun c1 => ?_) (fun c1 => ?_)
  · replace hr := it c1 hr
    refine lv_iconst (v := -1) hx hb dX3_went_28 (by decide) ?_
    exact m_riw (C := C) hret hlk hX hS (Option.some.inj hr) dX3_went_29
  · replace hr := ie c1 hr
    refine lv_iload_n hx hb dX3_went_16 rfl (lv_at hl 2 rfl) ?_
    refine lv_i2l (v := a2.toInt64) hx hb dX3_went_17 rfl ?_
    refine lv_lconst (v := 0) hx hb dX3_went_18 (by decide) ?_
    refine lv_ldc2 hx hb hown (hts _ q2112) dX3_went_19 ?_
    refine m_csi (As := [.long a2.toInt64, .long (0 : Int64), .long (6 : Int64)]) (rest := []) C hX hS hl.1 (cm_in l a2.toInt64 (0 : Int64) (6 : Int64) rfl) (va_cwS 3 hts (lw_S q1974 q1975 q109 q1976) rfl rfl rfl (by decide +kernel) ⟨Nat.le_of_ble_eq_true rfl, Nat.le_of_ble_eq_true rfl⟩) rfl rfl (Nat.le_of_ble_eq_true rfl) dX3_went_22 (fun H locs hX hS => ?_)
    refine lv_if_ne (tgt := 30) hx hb dX3_went_25 (by decide) (fun c2 => ?_) (fun c2 => ?_)
    · replace hr := ie c2 hr
      refine lv_aload_n hx hb dX3_went_30 rfl (lv_at hl 0 rfl) ?_
      refine lv_bipush (v := 95) hx hb dX3_went_31 (by decide) ?_
      obtain ⟨x3, e3, hr⟩ := ob hr
      refine m_cvv (As := [.int (95 : Int32)]) (rest := []) C hX hS hl.1 (cm_goesTo l G hG S (95 : Int32) e3) (cwV 1 hts (lw_V q2301 q2303 qs89 q109 q2304) rfl rfl rfl (by decide +kernel) ⟨Nat.le_of_ble_eq_true rfl, Nat.le_of_ble_eq_true rfl⟩) rfl rfl (Nat.le_of_ble_eq_true rfl) dX3_went_33 (fun H locs hX hS => ?_)
      refine lv_iload_n hx hb dX3_went_36 rfl (lv_at hl 2 rfl) ?_
      by_cases c4 : a2 = (0 : Int32)
      · replace hr := it c4 hr
        refine lv_tableIn (off := 39) (tgt := 76) hx hb dX3_went_37 (by rw [c4]; decide) (by rw [c4]; decide) (by rw [c4]; rfl) (by decide) ?_
        refine lv_aload_n hx hb dX3_went_76 rfl (lv_at hl 0 rfl) ?_
        refine m_ga (k := 60) (d := 1) C q1758 rfl (by decide) hX dX3_went_77 ?_
        refine lv_iload_n hx hb dX3_went_80 rfl (lv_at hl 1 rfl) ?_
        obtain ⟨x5, e5, hr⟩ := ob hr
        refine m_za (k := 60) C rfl hX e5 dX3_went_81 ?_
        refine lv_if_eq (tgt := 94) hx hb dX3_went_82 (by decide) (fun c6 => ?_) (fun c6 => ?_)
        · replace hr := it c6 hr
          refine lv_bipush (v := -5) hx hb dX3_went_94 (by decide) ?_
          exact m_riw (C := C) hret hlk hX hS (Option.some.inj hr) dX3_went_96
        · replace hr := ie c6 hr
          refine lv_aload_n hx hb dX3_went_85 rfl (lv_at hl 0 rfl) ?_
          refine m_ga (k := 63) (d := 0) C q1761 rfl (by decide) hX dX3_went_86 ?_
          refine lv_iload_n hx hb dX3_went_89 rfl (lv_at hl 1 rfl) ?_
          obtain ⟨x7, e7, hr⟩ := ob hr
          refine m_ia (k := 63) C rfl hX e7 dX3_went_90 ?_
          refine lv_goto (tgt := 96) hx hb dX3_went_91 (by decide) ?_
          exact m_riw (C := C) hret hlk hX hS (Option.some.inj hr) dX3_went_96
      replace hr := ie c4 hr
      by_cases c8 : a2 = (1 : Int32)
      · replace hr := it c8 hr
        refine lv_tableIn (off := 60) (tgt := 97) hx hb dX3_went_37 (by rw [c8]; decide) (by rw [c8]; decide) (by rw [c8]; rfl) (by decide) ?_
        refine lv_aload_n hx hb dX3_went_97 rfl (lv_at hl 0 rfl) ?_
        refine m_ga (k := 60) (d := 1) C q1758 rfl (by decide) hX dX3_went_98 ?_
        refine lv_iload_n hx hb dX3_went_101 rfl (lv_at hl 1 rfl) ?_
        obtain ⟨x9, e9, hr⟩ := ob hr
        refine m_za (k := 60) C rfl hX e9 dX3_went_102 ?_
        refine lv_if_eq (tgt := 115) hx hb dX3_went_103 (by decide) (fun c10 => ?_) (fun c10 => ?_)
        · replace hr := it c10 hr
          refine lv_bipush (v := -5) hx hb dX3_went_115 (by decide) ?_
          exact m_riw (C := C) hret hlk hX hS (Option.some.inj hr) dX3_went_117
        · replace hr := ie c10 hr
          refine lv_aload_n hx hb dX3_went_106 rfl (lv_at hl 0 rfl) ?_
          refine m_ga (k := 66) (d := 0) C q1764 rfl (by decide) hX dX3_went_107 ?_
          refine lv_iload_n hx hb dX3_went_110 rfl (lv_at hl 1 rfl) ?_
          obtain ⟨x11, e11, hr⟩ := ob hr
          refine m_ia (k := 66) C rfl hX e11 dX3_went_111 ?_
          refine lv_goto (tgt := 117) hx hb dX3_went_112 (by decide) ?_
          exact m_riw (C := C) hret hlk hX hS (Option.some.inj hr) dX3_went_117
      replace hr := ie c8 hr
      by_cases c12 : a2 = (2 : Int32)
      · replace hr := it c12 hr
        refine lv_tableIn (off := 81) (tgt := 118) hx hb dX3_went_37 (by rw [c12]; decide) (by rw [c12]; decide) (by rw [c12]; rfl) (by decide) ?_
        refine lv_aload_n hx hb dX3_went_118 rfl (lv_at hl 0 rfl) ?_
        refine m_ga (k := 61) (d := 1) C q1759 rfl (by decide) hX dX3_went_119 ?_
        refine lv_iload_n hx hb dX3_went_122 rfl (lv_at hl 1 rfl) ?_
        obtain ⟨x13, e13, hr⟩ := ob hr
        refine m_za (k := 61) C rfl hX e13 dX3_went_123 ?_
        refine lv_if_eq (tgt := 131) hx hb dX3_went_124 (by decide) (fun c14 => ?_) (fun c14 => ?_)
        · replace hr := it c14 hr
          refine lv_iconst (v := 0) hx hb dX3_went_131 (by decide) ?_
          exact m_riw (C := C) hret hlk hX hS (Option.some.inj hr) dX3_went_132
        · replace hr := ie c14 hr
          refine lv_iconst (v := 1) hx hb dX3_went_127 (by decide) ?_
          refine lv_goto (tgt := 132) hx hb dX3_went_128 (by decide) ?_
          exact m_riw (C := C) hret hlk hX hS (Option.some.inj hr) dX3_went_132
      replace hr := ie c12 hr
      by_cases c15 : a2 = (3 : Int32)
      · replace hr := it c15 hr
        refine lv_tableIn (off := 96) (tgt := 133) hx hb dX3_went_37 (by rw [c15]; decide) (by rw [c15]; decide) (by rw [c15]; rfl) (by decide) ?_
        refine lv_aload_n hx hb dX3_went_133 rfl (lv_at hl 0 rfl) ?_
        refine m_ga (k := 67) (d := 0) C q1765 rfl (by decide) hX dX3_went_134 ?_
        refine lv_iload_n hx hb dX3_went_137 rfl (lv_at hl 1 rfl) ?_
        obtain ⟨x16, e16, hr⟩ := ob hr
        refine m_ia (k := 67) C rfl hX e16 dX3_went_138 ?_
        exact m_riw (C := C) hret hlk hX hS (Option.some.inj hr) dX3_went_139
      replace hr := ie c15 hr
      by_cases c17 : a2 = (4 : Int32)
      · replace hr := it c17 hr
        refine lv_tableIn (off := 103) (tgt := 140) hx hb dX3_went_37 (by rw [c17]; decide) (by rw [c17]; decide) (by rw [c17]; rfl) (by decide) ?_
        refine lv_aload_n hx hb dX3_went_140 rfl (lv_at hl 0 rfl) ?_
        refine m_ga (k := 68) (d := 0) C q1766 rfl (by decide) hX dX3_went_141 ?_
        refine lv_iload_n hx hb dX3_went_144 rfl (lv_at hl 1 rfl) ?_
        obtain ⟨x18, e18, hr⟩ := ob hr
        refine m_ia (k := 68) C rfl hX e18 dX3_went_145 ?_
        exact m_riw (C := C) hret hlk hX hS (Option.some.inj hr) dX3_went_146
      replace hr := ie c17 hr
      by_cases c19 : a2 = (5 : Int32)
      · replace hr := it c19 hr
        refine lv_tableIn (off := 110) (tgt := 147) hx hb dX3_went_37 (by rw [c19]; decide) (by rw [c19]; decide) (by rw [c19]; rfl) (by decide) ?_
        refine lv_aload_n hx hb dX3_went_147 rfl (lv_at hl 0 rfl) ?_
        refine m_ga (k := 62) (d := 0) C q1760 rfl (by decide) hX dX3_went_148 ?_
        refine lv_iload_n hx hb dX3_went_151 rfl (lv_at hl 1 rfl) ?_
        obtain ⟨x20, e20, hr⟩ := ob hr
        refine m_ia (k := 62) C rfl hX e20 dX3_went_152 ?_
        exact m_riw (C := C) hret hlk hX hS (Option.some.inj hr) dX3_went_153
      replace hr := ie c19 hr
      refine lv_tableOut (tgt := 154) hx hb dX3_went_37 (tb_out (fun k h1 h2 => ?_)) (by decide) ?_
      · have h3 : k = 0 ∨ k = 1 ∨ k = 2 ∨ k = 3 ∨ k = 4 ∨ k = 5 := by omega
        rcases h3 with rfl | rfl | rfl | rfl | rfl | rfl
        · exact c4
        · exact c8
        · exact c12
        · exact c15
        · exact c17
        · exact c19
      · refine lv_aload_n hx hb dX3_went_154 rfl (lv_at hl 0 rfl) ?_
        refine m_ga (k := 63) (d := 0) C q1761 rfl (by decide) hX dX3_went_155 ?_
        refine lv_iload_n hx hb dX3_went_158 rfl (lv_at hl 1 rfl) ?_
        obtain ⟨x21, e21, hr⟩ := ob hr
        refine m_ia (k := 63) C rfl hX e21 dX3_went_159 ?_
        exact m_riw (C := C) hret hlk hX hS (Option.some.inj hr) dX3_went_160
    · replace hr := it c2 hr
      refine lv_iconst (v := -1) hx hb dX3_went_28 (by decide) ?_
      exact m_riw (C := C) hret hlk hX hS (Option.some.inj hr) dX3_went_29

def fm_stayed (S : mS) (a1 : Int32) (a2 : Int32) : Option (mS × Int32) :=
  (if (fm_isPlace S a1) = 0 then
  some (S, (-1 : Int32))
  else
  (if (fm_in a2.toInt64 (0 : Int64) (2 : Int64)) = 0 then
  some (S, (-1 : Int32))
  else
  (fm_goesTo S (95 : Int32)).bind fun x3 =>
  (if a2 = 0 then
  (aI x3 69 a1).bind fun x8 =>
  some (x3, x8)
  else
  (if a2 = (1 : Int32) then
  (aI x3 70 a1).bind fun x7 =>
  some (x3, x7)
  else
  (aI x3 71 a1).bind fun x6 =>
  some (x3, x6)))))
set_option maxHeartbeats 4000000 in
set_option maxRecDepth 100000 in
theorem cm_stayed (l : Launch) (G : mGh) (hG : mOk G) (S : mS) (a1 : Int32) (a2 : Int32) {S' : mS} {r : Int32} (hr : fm_stayed S a1 a2 = some (S', r)) : Met l yX3_stayed (ws_ yX3_stayed cX3_stayed 3 (some .int)) ({ frames := 7, cells := 0, slots := 0, locals := 166 } : Room) (mPc G [.int a1, .int a2] S) (mQi G r S') 0 0 (zA G) := by
  refine m_met cX3_stayed (by decide) rfl hG (Nat.le_of_ble_eq_true rfl) (fun p e s m args below meth c C hret hlk ls hX hl => ?_)
  have hx := C.1.1
  have hb := C.1.2.1
  have hown := C.1.2.2.2.1
  have hts := C.1.2.2.2.2
  have hS : va_S (zA G) s.heap s.heap [] := va_S.rf
  have hl : lv_has ls 3 [(0, .ref (zh G)), (1, .int a1), (2, .int a2)] := hl
  unfold fm_stayed at hr
  refine lv_aload_n hx hb dX3_stayed_0 rfl (lv_at hl 0 rfl) ?_
  refine lv_iload_n hx hb dX3_stayed_1 rfl (lv_at hl 1 rfl) ?_
  refine m_cvi (As := [.int a1]) (rest := []) C hX hS hl.1 (cm_isPlace l G hG S a1 rfl) (cwV 1 hts (lw_V q1981 q1983 qs50 q109 q1984) rfl rfl rfl (by decide +kernel) ⟨Nat.le_of_ble_eq_true rfl, Nat.le_of_ble_eq_true rfl⟩) rfl rfl (Nat.le_of_ble_eq_true rfl) dX3_stayed_2 (fun H locs hX hS => ?_)
  refine lv_if_eq (tgt := 20) hx hb dX3_stayed_5 (by decide) (fun c1 => ?_) (fun c1 => ?_)
  · replace hr := it c1 hr
    refine lv_iconst (v := -1) hx hb dX3_stayed_20 (by decide) ?_
    exact m_riw (C := C) hret hlk hX hS (Option.some.inj hr) dX3_stayed_21
  · replace hr := ie c1 hr
    refine lv_iload_n hx hb dX3_stayed_8 rfl (lv_at hl 2 rfl) ?_
    refine lv_i2l (v := a2.toInt64) hx hb dX3_stayed_9 rfl ?_
    refine lv_lconst (v := 0) hx hb dX3_stayed_10 (by decide) ?_
    refine lv_ldc2 hx hb hown (hts _ q2037) dX3_stayed_11 ?_
    refine m_csi (As := [.long a2.toInt64, .long (0 : Int64), .long (2 : Int64)]) (rest := []) C hX hS hl.1 (cm_in l a2.toInt64 (0 : Int64) (2 : Int64) rfl) (va_cwS 3 hts (lw_S q1974 q1975 q109 q1976) rfl rfl rfl (by decide +kernel) ⟨Nat.le_of_ble_eq_true rfl, Nat.le_of_ble_eq_true rfl⟩) rfl rfl (Nat.le_of_ble_eq_true rfl) dX3_stayed_14 (fun H locs hX hS => ?_)
    refine lv_if_ne (tgt := 22) hx hb dX3_stayed_17 (by decide) (fun c2 => ?_) (fun c2 => ?_)
    · replace hr := ie c2 hr
      refine lv_aload_n hx hb dX3_stayed_22 rfl (lv_at hl 0 rfl) ?_
      refine lv_bipush (v := 95) hx hb dX3_stayed_23 (by decide) ?_
      obtain ⟨x3, e3, hr⟩ := ob hr
      refine m_cvv (As := [.int (95 : Int32)]) (rest := []) C hX hS hl.1 (cm_goesTo l G hG S (95 : Int32) e3) (cwV 1 hts (lw_V q2301 q2303 qs89 q109 q2304) rfl rfl rfl (by decide +kernel) ⟨Nat.le_of_ble_eq_true rfl, Nat.le_of_ble_eq_true rfl⟩) rfl rfl (Nat.le_of_ble_eq_true rfl) dX3_stayed_25 (fun H locs hX hS => ?_)
      refine lv_iload_n hx hb dX3_stayed_28 rfl (lv_at hl 2 rfl) ?_
      refine lv_if_ne (tgt := 41) hx hb dX3_stayed_29 (by decide) (fun c4 => ?_) (fun c4 => ?_)
      · replace hr := ie c4 hr
        refine lv_iload_n hx hb dX3_stayed_41 rfl (lv_at hl 2 rfl) ?_
        refine lv_iconst (v := 1) hx hb dX3_stayed_42 (by decide) ?_
        refine lv_icmp_ne (tgt := 55) hx hb dX3_stayed_43 (by decide) (fun c5 => ?_) (fun c5 => ?_)
        · replace hr := ie c5 hr
          refine lv_aload_n hx hb dX3_stayed_55 rfl (lv_at hl 0 rfl) ?_
          refine m_ga (k := 71) (d := 0) C q1769 rfl (by decide) hX dX3_stayed_56 ?_
          refine lv_iload_n hx hb dX3_stayed_59 rfl (lv_at hl 1 rfl) ?_
          obtain ⟨x6, e6, hr⟩ := ob hr
          refine m_ia (k := 71) C rfl hX e6 dX3_stayed_60 ?_
          exact m_riw (C := C) hret hlk hX hS (Option.some.inj hr) dX3_stayed_61
        · replace hr := it c5 hr
          refine lv_aload_n hx hb dX3_stayed_46 rfl (lv_at hl 0 rfl) ?_
          refine m_ga (k := 70) (d := 0) C q1768 rfl (by decide) hX dX3_stayed_47 ?_
          refine lv_iload_n hx hb dX3_stayed_50 rfl (lv_at hl 1 rfl) ?_
          obtain ⟨x7, e7, hr⟩ := ob hr
          refine m_ia (k := 70) C rfl hX e7 dX3_stayed_51 ?_
          refine lv_goto (tgt := 61) hx hb dX3_stayed_52 (by decide) ?_
          exact m_riw (C := C) hret hlk hX hS (Option.some.inj hr) dX3_stayed_61
      · replace hr := it c4 hr
        refine lv_aload_n hx hb dX3_stayed_32 rfl (lv_at hl 0 rfl) ?_
        refine m_ga (k := 69) (d := 0) C q1767 rfl (by decide) hX dX3_stayed_33 ?_
        refine lv_iload_n hx hb dX3_stayed_36 rfl (lv_at hl 1 rfl) ?_
        obtain ⟨x8, e8, hr⟩ := ob hr
        refine m_ia (k := 69) C rfl hX e8 dX3_stayed_37 ?_
        refine lv_goto (tgt := 61) hx hb dX3_stayed_38 (by decide) ?_
        exact m_riw (C := C) hret hlk hX hS (Option.some.inj hr) dX3_stayed_61
    · replace hr := it c2 hr
      refine lv_iconst (v := -1) hx hb dX3_stayed_20 (by decide) ?_
      exact m_riw (C := C) hret hlk hX hS (Option.some.inj hr) dX3_stayed_21

def fm_where (S : mS) (a1 : Int32) : Option Int32 :=
  (aI S 59 a1).bind fun x1 =>
  (if x1 = 0 then
  some (-4 : Int32)
  else
  (aI S 65 a1).bind fun x3 =>
  (if x3 = (-4 : Int32) then
  (aI S 63 a1).bind fun x5 =>
  some x5
  else
  (aI S 55 a1).bind fun x6 =>
  (aI S 62 a1).bind fun x7 =>
  (fm_stepAt S x6 x7).bind fun x8 =>
  some ((100 : Int32) + x8)))
set_option maxHeartbeats 4000000 in
set_option maxRecDepth 100000 in
theorem cm_where (l : Launch) (G : mGh) (hG : mOk G) (S : mS) (a1 : Int32) {r : Int32} (hr : fm_where S a1 = some r) : Met l yX3_where (ws_ yX3_where cX3_where 2 (some .int)) ({ frames := 1, cells := 0, slots := 0, locals := 22 } : Room) (mPc G [.int a1] S) (mQi G r S) 0 0 (zA G) := by
  refine m_met cX3_where (by decide) rfl hG (Nat.le_of_ble_eq_true rfl) (fun p e s m args below meth c C hret hlk ls hX hl => ?_)
  have hx := C.1.1
  have hb := C.1.2.1
  have hown := C.1.2.2.2.1
  have hts := C.1.2.2.2.2
  have hS : va_S (zA G) s.heap s.heap [] := va_S.rf
  have hl : lv_has ls 2 [(0, .ref (zh G)), (1, .int a1)] := hl
  unfold fm_where at hr
  refine lv_aload_n hx hb dX3_where_0 rfl (lv_at hl 0 rfl) ?_
  refine m_ga (k := 59) (d := 1) C q1757 rfl (by decide) hX dX3_where_1 ?_
  refine lv_iload_n hx hb dX3_where_4 rfl (lv_at hl 1 rfl) ?_
  obtain ⟨x1, e1, hr⟩ := ob hr
  refine m_za (k := 59) C rfl hX e1 dX3_where_5 ?_
  refine lv_if_ne (tgt := 14) hx hb dX3_where_6 (by decide) (fun c2 => ?_) (fun c2 => ?_)
  · replace hr := ie c2 hr
    refine lv_aload_n hx hb dX3_where_14 rfl (lv_at hl 0 rfl) ?_
    refine m_ga (k := 65) (d := 0) C q1763 rfl (by decide) hX dX3_where_15 ?_
    refine lv_iload_n hx hb dX3_where_18 rfl (lv_at hl 1 rfl) ?_
    obtain ⟨x3, e3, hr⟩ := ob hr
    refine m_ia (k := 65) C rfl hX e3 dX3_where_19 ?_
    refine lv_bipush (v := -4) hx hb dX3_where_20 (by decide) ?_
    refine lv_icmp_eq (tgt := 47) hx hb dX3_where_22 (by decide) (fun c4 => ?_) (fun c4 => ?_)
    · replace hr := it c4 hr
      refine lv_aload_n hx hb dX3_where_47 rfl (lv_at hl 0 rfl) ?_
      refine m_ga (k := 63) (d := 0) C q1761 rfl (by decide) hX dX3_where_48 ?_
      refine lv_iload_n hx hb dX3_where_51 rfl (lv_at hl 1 rfl) ?_
      obtain ⟨x5, e5, hr⟩ := ob hr
      refine m_ia (k := 63) C rfl hX e5 dX3_where_52 ?_
      exact m_ri (C := C) hret hlk hX hS (Option.some.inj hr) dX3_where_53
    · replace hr := ie c4 hr
      refine lv_bipush (v := 100) hx hb dX3_where_25 (by decide) ?_
      refine lv_aload_n hx hb dX3_where_27 rfl (lv_at hl 0 rfl) ?_
      refine lv_aload_n hx hb dX3_where_28 rfl (lv_at hl 0 rfl) ?_
      refine m_ga (k := 55) (d := 0) C q1753 rfl (by decide) hX dX3_where_29 ?_
      refine lv_iload_n hx hb dX3_where_32 rfl (lv_at hl 1 rfl) ?_
      obtain ⟨x6, e6, hr⟩ := ob hr
      refine m_ia (k := 55) C rfl hX e6 dX3_where_33 ?_
      refine lv_aload_n hx hb dX3_where_34 rfl (lv_at hl 0 rfl) ?_
      refine m_ga (k := 62) (d := 0) C q1760 rfl (by decide) hX dX3_where_35 ?_
      refine lv_iload_n hx hb dX3_where_38 rfl (lv_at hl 1 rfl) ?_
      obtain ⟨x7, e7, hr⟩ := ob hr
      refine m_ia (k := 62) C rfl hX e7 dX3_where_39 ?_
      obtain ⟨x8, e8, hr⟩ := ob hr
      refine m_cvi (As := [.int x6, .int x7]) (rest := [.int (100 : Int32)]) C hX hS hl.1 (cm_stepAt l G hG S x6 x7 e8) (cwV 2 hts (lw_V q2011 q2013 qs54 q109 q2014) rfl rfl rfl (by decide +kernel) ⟨Nat.le_of_ble_eq_true rfl, Nat.le_of_ble_eq_true rfl⟩) rfl rfl (Nat.le_of_ble_eq_true rfl) dX3_where_40 (fun H locs hX hS => ?_)
      refine lv_iadd hx hb dX3_where_43 ?_
      refine lv_goto (tgt := 53) hx hb dX3_where_44 (by decide) ?_
      exact m_ri (C := C) hret hlk hX hS (Option.some.inj hr) dX3_where_53
  · replace hr := it c2 hr
    refine lv_bipush (v := -4) hx hb dX3_where_9 (by decide) ?_
    refine lv_goto (tgt := 53) hx hb dX3_where_11 (by decide) ?_
    exact m_ri (C := C) hret hlk hX hS (Option.some.inj hr) dX3_where_53

def fm_at (S : mS) (a1 : Int32) (a2 : Int32) : Option (mS × Int32) :=
  (if (fm_in a1.toInt64 (0 : Int64) (((gI S 54) - (1 : Int32)).toInt64)) = 0 then
  some (S, (-1 : Int32))
  else
  (if (fm_in a2.toInt64 (0 : Int64) (95 : Int64)) = 0 then
  some (S, (-1 : Int32))
  else
  (fm_goesTo S a2).bind fun x3 =>
  (fm_where x3 a1).bind fun x4 =>
  some (x3, x4)))
set_option maxHeartbeats 4000000 in
set_option maxRecDepth 100000 in
theorem cm_at (l : Launch) (G : mGh) (hG : mOk G) (S : mS) (a1 : Int32) (a2 : Int32) {S' : mS} {r : Int32} (hr : fm_at S a1 a2 = some (S', r)) : Met l yX3_at (ws_ yX3_at cX3_at 3 (some .int)) ({ frames := 7, cells := 0, slots := 0, locals := 166 } : Room) (mPc G [.int a1, .int a2] S) (mQi G r S') 0 0 (zA G) := by
  refine m_met cX3_at (by decide) rfl hG (Nat.le_of_ble_eq_true rfl) (fun p e s m args below meth c C hret hlk ls hX hl => ?_)
  have hx := C.1.1
  have hb := C.1.2.1
  have hown := C.1.2.2.2.1
  have hts := C.1.2.2.2.2
  have hS : va_S (zA G) s.heap s.heap [] := va_S.rf
  have hl : lv_has ls 3 [(0, .ref (zh G)), (1, .int a1), (2, .int a2)] := hl
  unfold fm_at at hr
  refine lv_iload_n hx hb dX3_at_0 rfl (lv_at hl 1 rfl) ?_
  refine lv_i2l (v := a1.toInt64) hx hb dX3_at_1 rfl ?_
  refine lv_lconst (v := 0) hx hb dX3_at_2 (by decide) ?_
  refine lv_aload_n hx hb dX3_at_3 rfl (lv_at hl 0 rfl) ?_
  refine m_gi (k := 54) C q1752 rfl hX dX3_at_4 ?_
  refine lv_iconst (v := 1) hx hb dX3_at_7 (by decide) ?_
  refine lv_isub hx hb dX3_at_8 ?_
  refine lv_i2l (v := ((gI S 54) - (1 : Int32)).toInt64) hx hb dX3_at_9 rfl ?_
  refine m_csi (As := [.long a1.toInt64, .long (0 : Int64), .long (((gI S 54) - (1 : Int32)).toInt64)]) (rest := []) C hX hS hl.1 (cm_in l a1.toInt64 (0 : Int64) (((gI S 54) - (1 : Int32)).toInt64) rfl) (va_cwS 3 hts (lw_S q1974 q1975 q109 q1976) rfl rfl rfl (by decide +kernel) ⟨Nat.le_of_ble_eq_true rfl, Nat.le_of_ble_eq_true rfl⟩) rfl rfl (Nat.le_of_ble_eq_true rfl) dX3_at_10 (fun H locs hX hS => ?_)
  refine lv_if_eq (tgt := 28) hx hb dX3_at_13 (by decide) (fun c1 => ?_) (fun c1 => ?_)
  · replace hr := it c1 hr
    refine lv_iconst (v := -1) hx hb dX3_at_28 (by decide) ?_
    exact m_riw (C := C) hret hlk hX hS (Option.some.inj hr) dX3_at_29
  · replace hr := ie c1 hr
    refine lv_iload_n hx hb dX3_at_16 rfl (lv_at hl 2 rfl) ?_
    refine lv_i2l (v := a2.toInt64) hx hb dX3_at_17 rfl ?_
    refine lv_lconst (v := 0) hx hb dX3_at_18 (by decide) ?_
    refine lv_ldc2 hx hb hown (hts _ q2070) dX3_at_19 ?_
    refine m_csi (As := [.long a2.toInt64, .long (0 : Int64), .long (95 : Int64)]) (rest := []) C hX hS hl.1 (cm_in l a2.toInt64 (0 : Int64) (95 : Int64) rfl) (va_cwS 3 hts (lw_S q1974 q1975 q109 q1976) rfl rfl rfl (by decide +kernel) ⟨Nat.le_of_ble_eq_true rfl, Nat.le_of_ble_eq_true rfl⟩) rfl rfl (Nat.le_of_ble_eq_true rfl) dX3_at_22 (fun H locs hX hS => ?_)
    refine lv_if_ne (tgt := 30) hx hb dX3_at_25 (by decide) (fun c2 => ?_) (fun c2 => ?_)
    · replace hr := ie c2 hr
      refine lv_aload_n hx hb dX3_at_30 rfl (lv_at hl 0 rfl) ?_
      refine lv_iload_n hx hb dX3_at_31 rfl (lv_at hl 2 rfl) ?_
      obtain ⟨x3, e3, hr⟩ := ob hr
      refine m_cvv (As := [.int a2]) (rest := []) C hX hS hl.1 (cm_goesTo l G hG S a2 e3) (cwV 1 hts (lw_V q2301 q2303 qs89 q109 q2304) rfl rfl rfl (by decide +kernel) ⟨Nat.le_of_ble_eq_true rfl, Nat.le_of_ble_eq_true rfl⟩) rfl rfl (Nat.le_of_ble_eq_true rfl) dX3_at_32 (fun H locs hX hS => ?_)
      refine lv_aload_n hx hb dX3_at_35 rfl (lv_at hl 0 rfl) ?_
      refine lv_iload_n hx hb dX3_at_36 rfl (lv_at hl 1 rfl) ?_
      obtain ⟨x4, e4, hr⟩ := ob hr
      refine m_cvi (As := [.int a1]) (rest := []) C hX hS hl.1 (cm_where l G hG x3 a1 e4) (cwV 1 hts (lw_V q2337 q2339 qs96 q109 q2340) rfl rfl rfl (by decide +kernel) ⟨Nat.le_of_ble_eq_true rfl, Nat.le_of_ble_eq_true rfl⟩) rfl rfl (Nat.le_of_ble_eq_true rfl) dX3_at_37 (fun H locs hX hS => ?_)
      exact m_riw (C := C) hret hlk hX hS (Option.some.inj hr) dX3_at_40
    · replace hr := it c2 hr
      refine lv_iconst (v := -1) hx hb dX3_at_28 (by decide) ?_
      exact m_riw (C := C) hret hlk hX hS (Option.some.inj hr) dX3_at_29

def fm_near_k87 (t5 : mS × Int32 × Int32 × Int32) (x10 : mS × Int32) : Option ((mS × Int32 × Int32 × Int32) ⊕ (mS × Int32 × Int32)) :=
  (((if x10.2 = (-4 : Int32) then
  some (t5.2.1, t5.2.2.1)
  else
  (if t5.2.2.1 ≤ x10.2 then
  some (t5.2.1, t5.2.2.1)
  else
  some (t5.2.2.2, x10.2))) : Option (Int32 × Int32))).bind (fun x15 =>
  some (.inl (x10.1, x15.1, x15.2, (t5.2.2.2 + (1 : Int32)))))
def fm_near_k170 (t20 : mS × Int32 × Int32 × Int32) (x25 : mS × Int32) : Option ((mS × Int32 × Int32 × Int32) ⊕ (mS × Int32 × Int32)) :=
  (((if x25.2 = (-4 : Int32) then
  some (t20.2.1, t20.2.2.1)
  else
  (if t20.2.2.1 ≤ x25.2 then
  some (t20.2.1, t20.2.2.1)
  else
  some (((100 : Int32) + t20.2.2.2), x25.2))) : Option (Int32 × Int32))).bind (fun x30 =>
  some (.inl (x25.1, x30.1, x30.2, (t20.2.2.2 + (1 : Int32)))))
def fm_near_k203 (a3 : Int32) (z22 : mS × Int32 × Int32) : Option ((mS × Int32)) :=
  (if z22.2.1 = (-4 : Int32) then
  some (z22.1, (-4 : Int32))
  else
  (if a3 = 0 then
  some (z22.1, z22.2.2)
  else
  some (z22.1, z22.2.1)))
def fm_near_l120 (a1 : Int32) (a2 : Int32) (t20 : mS × Int32 × Int32 × Int32) : Option ((mS × Int32 × Int32 × Int32) ⊕ (mS × Int32 × Int32)) :=
  (if (gI t20.1 54) ≤ t20.2.2.2 then
  some (.inr (t20.1, t20.2.1, t20.2.2.1))
  else
  (fm_where t20.1 t20.2.2.2).bind fun x24 =>
  (((if (fm_in x24.toInt64 (0 : Int64) (99 : Int64)) = 0 then
  some (t20.1, (-4 : Int32))
  else
  (aI t20.1 56 t20.2.2.2).bind fun x28 =>
  (fm_wayOf t20.1 x24 a1 x28 a2).bind fun x29 =>
  some (x29.1, x29.2)) : Option (mS × Int32))).bind (fun x25 => fm_near_k170 t20 x25))
def fm_near_l49 (a1 : Int32) (a2 : Int32) (t5 : mS × Int32 × Int32 × Int32) : Option ((mS × Int32 × Int32 × Int32) ⊕ (mS × Int32 × Int32)) :=
  (if (gI t5.1 17) ≤ t5.2.2.2 then
  some (.inr (t5.1, t5.2.1, t5.2.2.1))
  else
  (aI t5.1 21 t5.2.2.2).bind fun x9 =>
  (((if x9 = 0 then
  (aI t5.1 19 t5.2.2.2).bind fun x13 =>
  (fm_wayOf t5.1 (0 : Int32) a1 x13 a2).bind fun x14 =>
  some (x14.1, x14.2)
  else
  some (t5.1, (-4 : Int32))) : Option (mS × Int32))).bind (fun x10 => fm_near_k87 t5 x10))
def fm_near (S : mS) (a1 : Int32) (a2 : Int32) (a3 : Int32) : Option (mS × Int32) :=
  (if (fm_isPlace S a1) = 0 then
  some (S, (-1 : Int32))
  else
  (if (fm_in a2.toInt64 (0 : Int64) (95 : Int64)) = 0 then
  some (S, (-1 : Int32))
  else
  (if (fm_in a3.toInt64 (0 : Int64) (1 : Int64)) = 0 then
  some (S, (-1 : Int32))
  else
  (fm_goesTo S a2).bind fun x4 =>
  (loopO (fm_near_l49 a1 a2) 1000000 (x4, (-4 : Int32), (1000 : Int32), (0 : Int32))).bind (fun z7 =>
  (loopO (fm_near_l120 a1 a2) 1000000 (z7.1, z7.2.1, z7.2.2, (0 : Int32))).bind (fun z22 => fm_near_k203 a3 z22)))))
set_option maxHeartbeats 4000000 in
set_option maxRecDepth 100000 in
theorem cm_near (l : Launch) (G : mGh) (hG : mOk G) (S : mS) (a1 : Int32) (a2 : Int32) (a3 : Int32) {S' : mS} {r : Int32} (hr : fm_near S a1 a2 a3 = some (S', r)) : Met l yX3_near (ws_ yX3_near cX3_near 9 (some .int)) ({ frames := 7, cells := 0, slots := 0, locals := 166 } : Room) (mPc G [.int a1, .int a2, .int a3] S) (mQi G r S') 0 0 (zA G) := by
  refine m_met cX3_near (by decide) rfl hG (Nat.le_of_ble_eq_true rfl) (fun p e s m args below meth c C hret hlk ls hX hl => ?_)
  have hx := C.1.1
  have hb := C.1.2.1
  have hown := C.1.2.2.2.1
  have hts := C.1.2.2.2.2
  have hS : va_S (zA G) s.heap s.heap [] := va_S.rf
  have hl : lv_has ls 9 [(0, .ref (zh G)), (1, .int a1), (2, .int a2), (3, .int a3)] := hl
  unfold fm_near at hr
  refine lv_aload_n hx hb dX3_near_0 rfl (lv_at hl 0 rfl) ?_
  refine lv_iload_n hx hb dX3_near_1 rfl (lv_at hl 1 rfl) ?_
  refine m_cvi (As := [.int a1]) (rest := []) C hX hS hl.1 (cm_isPlace l G hG S a1 rfl) (cwV 1 hts (lw_V q1981 q1983 qs50 q109 q1984) rfl rfl rfl (by decide +kernel) ⟨Nat.le_of_ble_eq_true rfl, Nat.le_of_ble_eq_true rfl⟩) rfl rfl (Nat.le_of_ble_eq_true rfl) dX3_near_2 (fun H locs hX hS => ?_)
  refine lv_if_eq (tgt := 30) hx hb dX3_near_5 (by decide) (fun c1 => ?_) (fun c1 => ?_)
  · replace hr := it c1 hr
    refine lv_iconst (v := -1) hx hb dX3_near_30 (by decide) ?_
    exact m_riw (C := C) hret hlk hX hS (Option.some.inj hr) dX3_near_31
  · replace hr := ie c1 hr
    refine lv_iload_n hx hb dX3_near_8 rfl (lv_at hl 2 rfl) ?_
    refine lv_i2l (v := a2.toInt64) hx hb dX3_near_9 rfl ?_
    refine lv_lconst (v := 0) hx hb dX3_near_10 (by decide) ?_
    refine lv_ldc2 hx hb hown (hts _ q2070) dX3_near_11 ?_
    refine m_csi (As := [.long a2.toInt64, .long (0 : Int64), .long (95 : Int64)]) (rest := []) C hX hS hl.1 (cm_in l a2.toInt64 (0 : Int64) (95 : Int64) rfl) (va_cwS 3 hts (lw_S q1974 q1975 q109 q1976) rfl rfl rfl (by decide +kernel) ⟨Nat.le_of_ble_eq_true rfl, Nat.le_of_ble_eq_true rfl⟩) rfl rfl (Nat.le_of_ble_eq_true rfl) dX3_near_14 (fun H locs hX hS => ?_)
    refine lv_if_eq (tgt := 30) hx hb dX3_near_17 (by decide) (fun c2 => ?_) (fun c2 => ?_)
    · replace hr := it c2 hr
      refine lv_iconst (v := -1) hx hb dX3_near_30 (by decide) ?_
      exact m_riw (C := C) hret hlk hX hS (Option.some.inj hr) dX3_near_31
    · replace hr := ie c2 hr
      refine lv_iload_n hx hb dX3_near_20 rfl (lv_at hl 3 rfl) ?_
      refine lv_i2l (v := a3.toInt64) hx hb dX3_near_21 rfl ?_
      refine lv_lconst (v := 0) hx hb dX3_near_22 (by decide) ?_
      refine lv_lconst (v := 1) hx hb dX3_near_23 (by decide) ?_
      refine m_csi (As := [.long a3.toInt64, .long (0 : Int64), .long (1 : Int64)]) (rest := []) C hX hS hl.1 (cm_in l a3.toInt64 (0 : Int64) (1 : Int64) rfl) (va_cwS 3 hts (lw_S q1974 q1975 q109 q1976) rfl rfl rfl (by decide +kernel) ⟨Nat.le_of_ble_eq_true rfl, Nat.le_of_ble_eq_true rfl⟩) rfl rfl (Nat.le_of_ble_eq_true rfl) dX3_near_24 (fun H locs hX hS => ?_)
      refine lv_if_ne (tgt := 32) hx hb dX3_near_27 (by decide) (fun c3 => ?_) (fun c3 => ?_)
      · replace hr := ie c3 hr
        refine lv_aload_n hx hb dX3_near_32 rfl (lv_at hl 0 rfl) ?_
        refine lv_iload_n hx hb dX3_near_33 rfl (lv_at hl 2 rfl) ?_
        obtain ⟨x4, e4, hr⟩ := ob hr
        refine m_cvv (As := [.int a2]) (rest := []) C hX hS hl.1 (cm_goesTo l G hG S a2 e4) (cwV 1 hts (lw_V q2301 q2303 qs89 q109 q2304) rfl rfl rfl (by decide +kernel) ⟨Nat.le_of_ble_eq_true rfl, Nat.le_of_ble_eq_true rfl⟩) rfl rfl (Nat.le_of_ble_eq_true rfl) dX3_near_34 (fun H locs hX hS => ?_)
        refine lv_bipush (v := -4) hx hb dX3_near_37 (by decide) ?_
        refine lv_istore (lv' := [(4, .int (-4 : Int32)), (0, .ref (zh G)), (1, .int a1), (2, .int a2), (3, .int a3)]) hx hb dX3_near_39 hl (by decide) rfl (fun ls hl => ?_)
        refine lv_sipush (v := 1000) hx hb dX3_near_41 (by decide) ?_
        refine lv_istore (lv' := [(5, .int (1000 : Int32)), (4, .int (-4 : Int32)), (0, .ref (zh G)), (1, .int a1), (2, .int a2), (3, .int a3)]) hx hb dX3_near_44 hl (by decide) rfl (fun ls hl => ?_)
        refine lv_iconst (v := 0) hx hb dX3_near_46 (by decide) ?_
        refine lv_istore (lv' := [(6, .int (0 : Int32)), (5, .int (1000 : Int32)), (4, .int (-4 : Int32)), (0, .ref (zh G)), (1, .int a1), (2, .int a2), (3, .int a3)]) hx hb dX3_near_47 hl (by decide) rfl (fun ls hl => ?_)
        obtain ⟨z7, e7, hr⟩ := ob hr
        refine m_join (I := fun (_ : Unit) H locs ls => mX G z7.1 H ∧ va_S (zA G) s.heap H locs ∧ lv_has ls 9 [(0, .ref (zh G)), (1, .int a1), (2, .int a2), (3, .int a3), (4, .int z7.2.1), (5, .int z7.2.2)]) 117 (fun _ => []) (fun _ H locs ls hi => ?_) (fun J5_117 => ?_)
        · obtain ⟨hX, hS, hl⟩ := hi
          refine lv_iconst (v := 0) hx hb dX3_near_117 (by decide) ?_
          refine lv_istore (lv' := [(6, .int (0 : Int32)), (0, .ref (zh G)), (1, .int a1), (2, .int a2), (3, .int a3), (4, .int z7.2.1), (5, .int z7.2.2)]) hx hb dX3_near_118 hl (by decide) rfl (fun ls hl => ?_)
          obtain ⟨z22, e22, hr⟩ := ob hr
          refine m_join (I := fun (_ : Unit) H locs ls => mX G z22.1 H ∧ va_S (zA G) s.heap H locs ∧ lv_has ls 9 [(3, .int a3), (4, .int z22.2.1), (5, .int z22.2.2)]) 203 (fun _ => []) (fun _ H locs ls hi => ?_) (fun J20_203 => ?_)
          · obtain ⟨hX, hS, hl⟩ := hi
            unfold fm_near_k203 at hr
            refine lv_iload hx hb dX3_near_203 (lv_at hl 1 rfl) ?_
            refine lv_bipush (v := -4) hx hb dX3_near_205 (by decide) ?_
            refine lv_icmp_ne (tgt := 215) hx hb dX3_near_207 (by decide) (fun c36 => ?_) (fun c36 => ?_)
            · replace hr := ie c36 hr
              refine lv_iload_n hx hb dX3_near_215 rfl (lv_at hl 0 rfl) ?_
              refine lv_if_ne (tgt := 224) hx hb dX3_near_216 (by decide) (fun c37 => ?_) (fun c37 => ?_)
              · replace hr := ie c37 hr
                refine lv_iload hx hb dX3_near_224 (lv_at hl 1 rfl) ?_
                exact m_riw (C := C) hret hlk hX hS (Option.some.inj hr) dX3_near_226
              · replace hr := it c37 hr
                refine lv_iload hx hb dX3_near_219 (lv_at hl 2 rfl) ?_
                refine lv_goto (tgt := 226) hx hb dX3_near_221 (by decide) ?_
                exact m_riw (C := C) hret hlk hX hS (Option.some.inj hr) dX3_near_226
            · replace hr := it c36 hr
              refine lv_bipush (v := -4) hx hb dX3_near_210 (by decide) ?_
              refine lv_goto (tgt := 226) hx hb dX3_near_212 (by decide) ?_
              exact m_riw (C := C) hret hlk hX hS (Option.some.inj hr) dX3_near_226
          refine m_loop e22 (fun (t20 : mS × Int32 × Int32 × Int32) H locs ls => mX G t20.1 H ∧ va_S (zA G) s.heap H locs ∧ lv_has ls 9 [(0, .ref (zh G)), (1, .int a1), (2, .int a2), (3, .int a3), (4, .int t20.2.1), (5, .int t20.2.2.1), (6, .int t20.2.2.2)]) 120 ⟨hX, hS, lv_sub hl [1, 2, 3, 4, 5, 6, 0] rfl⟩ (fun t20 y20 b20 w20 k20 H locs ls hi => ?_)
          obtain ⟨hX, hS, hl⟩ := hi
          unfold fm_near_l120 at b20
          refine lv_iload hx hb dX3_near_120 (lv_at hl 6 rfl) ?_
          refine lv_aload_n hx hb dX3_near_122 rfl (lv_at hl 0 rfl) ?_
          refine m_gi (k := 54) C q1752 rfl hX dX3_near_123 ?_
          refine lv_icmp_ge (tgt := 203) hx hb dX3_near_126 (by decide) (fun c23 => ?_) (fun c23 => ?_)
          · replace b20 := it c23 b20
            replace b20 := lx b20 w20
            subst b20
            exact J20_203 () _ _ ls ⟨hX, hS, lv_sub hl [3, 4, 5] rfl⟩
          · replace b20 := ie c23 b20
            refine lv_aload_n hx hb dX3_near_129 rfl (lv_at hl 0 rfl) ?_
            refine lv_iload hx hb dX3_near_130 (lv_at hl 6 rfl) ?_
            obtain ⟨x24, e24, b20⟩ := ob b20
            refine m_cvi (As := [.int t20.2.2.2]) (rest := []) C hX hS hl.1 (cm_where l G hG t20.1 t20.2.2.2 e24) (cwV 1 hts (lw_V q2337 q2339 qs96 q109 q2340) rfl rfl rfl (by decide +kernel) ⟨Nat.le_of_ble_eq_true rfl, Nat.le_of_ble_eq_true rfl⟩) rfl rfl (Nat.le_of_ble_eq_true rfl) dX3_near_132 (fun H locs hX hS => ?_)
            refine lv_istore (lv' := [(7, .int x24), (0, .ref (zh G)), (1, .int a1), (2, .int a2), (3, .int a3), (4, .int t20.2.1), (5, .int t20.2.2.1), (6, .int t20.2.2.2)]) hx hb dX3_near_135 hl (by decide) rfl (fun ls hl => ?_)
            refine lv_iload hx hb dX3_near_137 (lv_at hl 0 rfl) ?_
            refine lv_i2l (v := x24.toInt64) hx hb dX3_near_139 rfl ?_
            refine lv_lconst (v := 0) hx hb dX3_near_140 (by decide) ?_
            refine lv_ldc2 hx hb hown (hts _ q2345) dX3_near_141 ?_
            refine m_csi (As := [.long x24.toInt64, .long (0 : Int64), .long (99 : Int64)]) (rest := []) C hX hS hl.1 (cm_in l x24.toInt64 (0 : Int64) (99 : Int64) rfl) (va_cwS 3 hts (lw_S q1974 q1975 q109 q1976) rfl rfl rfl (by decide +kernel) ⟨Nat.le_of_ble_eq_true rfl, Nat.le_of_ble_eq_true rfl⟩) rfl rfl (Nat.le_of_ble_eq_true rfl) dX3_near_144 (fun H locs hX hS => ?_)
            obtain ⟨x25, r25, b20⟩ := ob b20
            refine m_join (I := fun (t26 : mS × Int32) H locs ls => x25 = t26 ∧ mX G t26.1 H ∧ va_S (zA G) s.heap H locs ∧ lv_has ls 9 [(0, .ref (zh G)), (1, .int a1), (2, .int a2), (3, .int a3), (4, .int t20.2.1), (5, .int t20.2.2.1), (6, .int t20.2.2.2)]) 170 (fun t26 => [.int t26.2]) (fun t26 H locs ls hi => ?_) (fun J25 => ?_)
            · obtain ⟨rfl, hX, hS, hl⟩ := hi
              unfold fm_near_k170 at b20
              refine lv_istore (lv' := [(8, .int x25.2), (0, .ref (zh G)), (1, .int a1), (2, .int a2), (3, .int a3), (4, .int t20.2.1), (5, .int t20.2.2.1), (6, .int t20.2.2.2)]) hx hb dX3_near_170 hl (by decide) rfl (fun ls hl => ?_)
              refine lv_iload hx hb dX3_near_172 (lv_at hl 0 rfl) ?_
              refine lv_bipush (v := -4) hx hb dX3_near_174 (by decide) ?_
              obtain ⟨x30, r30, b20⟩ := ob b20
              refine m_join (I := fun (t31 : Int32 × Int32) H locs ls => x30 = t31 ∧ mX G x25.1 H ∧ va_S (zA G) s.heap H locs ∧ lv_has ls 9 [(0, .ref (zh G)), (1, .int a1), (2, .int a2), (3, .int a3), (4, .int t31.1), (5, .int t31.2), (6, .int t20.2.2.2)]) 197 (fun t31 => []) (fun t31 H locs ls hi => ?_) (fun J30 => ?_)
              · obtain ⟨rfl, hX, hS, hl⟩ := hi
                refine lv_iinc (v := (t20.2.2.2 + (1 : Int32))) (k := 6) (lv' := [(6, .int (t20.2.2.2 + (1 : Int32))), (0, .ref (zh G)), (1, .int a1), (2, .int a2), (3, .int a3), (4, .int x30.1), (5, .int x30.2)]) hx hb dX3_near_197 hl rfl rfl (by decide) rfl (fun ls hl => ?_)
                refine lv_goto (tgt := 120) hx hb dX3_near_200 (by decide) ?_
                obtain ⟨g35, hg35⟩ : ∃ g, g = (t20.2.2.2 + (1 : Int32)) := ⟨_, rfl⟩
                rw [← hg35] at hl b20
                exact k20 _ (Option.some.inj b20).symm _ _ ls ⟨hX, hS, lv_sub hl [1, 2, 3, 4, 5, 6, 0] rfl⟩
              · refine lv_icmp_eq (tgt := 197) hx hb dX3_near_176 (by decide) (fun c32 => ?_) (fun c32 => ?_)
                · replace r30 := it c32 r30
                  exact J30 _ _ _ ls ⟨(Option.some.inj r30).symm, hX, hS, lv_sub hl [1, 2, 3, 4, 5, 6, 7] rfl⟩
                · replace r30 := ie c32 r30
                  refine lv_iload hx hb dX3_near_179 (lv_at hl 0 rfl) ?_
                  refine lv_iload hx hb dX3_near_181 (lv_at hl 6 rfl) ?_
                  refine lv_icmp_ge (tgt := 197) hx hb dX3_near_183 (by decide) (fun c33 => ?_) (fun c33 => ?_)
                  · replace r30 := it c33 r30
                    exact J30 _ _ _ ls ⟨(Option.some.inj r30).symm, hX, hS, lv_sub hl [1, 2, 3, 4, 5, 6, 7] rfl⟩
                  · replace r30 := ie c33 r30
                    refine lv_bipush (v := 100) hx hb dX3_near_186 (by decide) ?_
                    refine lv_iload hx hb dX3_near_188 (lv_at hl 7 rfl) ?_
                    refine lv_iadd hx hb dX3_near_190 ?_
                    refine lv_istore (lv' := [(4, .int ((100 : Int32) + t20.2.2.2)), (8, .int x25.2), (0, .ref (zh G)), (1, .int a1), (2, .int a2), (3, .int a3), (5, .int t20.2.2.1), (6, .int t20.2.2.2)]) hx hb dX3_near_191 hl (by decide) rfl (fun ls hl => ?_)
                    refine lv_iload hx hb dX3_near_193 (lv_at hl 1 rfl) ?_
                    refine lv_istore (lv' := [(5, .int x25.2), (4, .int ((100 : Int32) + t20.2.2.2)), (8, .int x25.2), (0, .ref (zh G)), (1, .int a1), (2, .int a2), (3, .int a3), (6, .int t20.2.2.2)]) hx hb dX3_near_195 hl (by decide) rfl (fun ls hl => ?_)
                    obtain ⟨g34, hg34⟩ : ∃ g, g = ((100 : Int32) + t20.2.2.2) := ⟨_, rfl⟩
                    rw [← hg34] at hl r30
                    exact J30 _ _ _ ls ⟨(Option.some.inj r30).symm, hX, hS, lv_sub hl [3, 4, 5, 6, 1, 0, 7] rfl⟩
            · refine lv_if_eq (tgt := 168) hx hb dX3_near_147 (by decide) (fun c27 => ?_) (fun c27 => ?_)
              · replace r25 := it c27 r25
                refine lv_bipush (v := -4) hx hb dX3_near_168 (by decide) ?_
                exact J25 _ _ _ ls ⟨(Option.some.inj r25).symm, hX, hS, lv_sub hl [1, 2, 3, 4, 5, 6, 7] rfl⟩
              · replace r25 := ie c27 r25
                refine lv_aload_n hx hb dX3_near_150 rfl (lv_at hl 1 rfl) ?_
                refine lv_iload hx hb dX3_near_151 (lv_at hl 0 rfl) ?_
                refine lv_iload_n hx hb dX3_near_153 rfl (lv_at hl 2 rfl) ?_
                refine lv_aload_n hx hb dX3_near_154 rfl (lv_at hl 1 rfl) ?_
                refine m_ga (k := 56) (d := 0) C q1754 rfl (by decide) hX dX3_near_155 ?_
                refine lv_iload hx hb dX3_near_158 (lv_at hl 7 rfl) ?_
                obtain ⟨x28, e28, r25⟩ := ob r25
                refine m_ia (k := 56) C rfl hX e28 dX3_near_160 ?_
                refine lv_iload_n hx hb dX3_near_161 rfl (lv_at hl 3 rfl) ?_
                obtain ⟨x29, e29, r25⟩ := ob r25
                refine m_cvi (As := [.int x24, .int a1, .int x28, .int a2]) (rest := []) C hX hS hl.1 (cm_wayOf l G hG t20.1 x24 a1 x28 a2 e29) (cwV 4 hts (lw_V q2091 q2093 qs62 q109 q2094) rfl rfl rfl (by decide +kernel) ⟨Nat.le_of_ble_eq_true rfl, Nat.le_of_ble_eq_true rfl⟩) rfl rfl (Nat.le_of_ble_eq_true rfl) dX3_near_162 (fun H locs hX hS => ?_)
                refine lv_goto (tgt := 170) hx hb dX3_near_165 (by decide) ?_
                exact J25 _ _ _ ls ⟨(Option.some.inj r25).symm, hX, hS, lv_sub hl [1, 2, 3, 4, 5, 6, 7] rfl⟩
        refine m_loop e7 (fun (t5 : mS × Int32 × Int32 × Int32) H locs ls => mX G t5.1 H ∧ va_S (zA G) s.heap H locs ∧ lv_has ls 9 [(0, .ref (zh G)), (1, .int a1), (2, .int a2), (3, .int a3), (4, .int t5.2.1), (5, .int t5.2.2.1), (6, .int t5.2.2.2)]) 49 ⟨hX, hS, lv_sub hl [3, 4, 5, 6, 2, 1, 0] rfl⟩ (fun t5 y5 b5 w5 k5 H locs ls hi => ?_)
        obtain ⟨hX, hS, hl⟩ := hi
        unfold fm_near_l49 at b5
        refine lv_iload hx hb dX3_near_49 (lv_at hl 6 rfl) ?_
        refine lv_aload_n hx hb dX3_near_51 rfl (lv_at hl 0 rfl) ?_
        refine m_gi (k := 17) C q1715 rfl hX dX3_near_52 ?_
        refine lv_icmp_ge (tgt := 117) hx hb dX3_near_55 (by decide) (fun c8 => ?_) (fun c8 => ?_)
        · replace b5 := it c8 b5
          replace b5 := lx b5 w5
          subst b5
          exact J5_117 () _ _ ls ⟨hX, hS, lv_sub hl [0, 1, 2, 3, 4, 5] rfl⟩
        · replace b5 := ie c8 b5
          refine lv_aload_n hx hb dX3_near_58 rfl (lv_at hl 0 rfl) ?_
          refine m_ga (k := 21) (d := 1) C q1719 rfl (by decide) hX dX3_near_59 ?_
          refine lv_iload hx hb dX3_near_62 (lv_at hl 6 rfl) ?_
          obtain ⟨x9, e9, b5⟩ := ob b5
          refine m_za (k := 21) C rfl hX e9 dX3_near_64 ?_
          obtain ⟨x10, r10, b5⟩ := ob b5
          refine m_join (I := fun (t11 : mS × Int32) H locs ls => x10 = t11 ∧ mX G t11.1 H ∧ va_S (zA G) s.heap H locs ∧ lv_has ls 9 [(0, .ref (zh G)), (1, .int a1), (2, .int a2), (3, .int a3), (4, .int t5.2.1), (5, .int t5.2.2.1), (6, .int t5.2.2.2)]) 87 (fun t11 => [.int t11.2]) (fun t11 H locs ls hi => ?_) (fun J10 => ?_)
          · obtain ⟨rfl, hX, hS, hl⟩ := hi
            unfold fm_near_k87 at b5
            refine lv_istore (lv' := [(7, .int x10.2), (0, .ref (zh G)), (1, .int a1), (2, .int a2), (3, .int a3), (4, .int t5.2.1), (5, .int t5.2.2.1), (6, .int t5.2.2.2)]) hx hb dX3_near_87 hl (by decide) rfl (fun ls hl => ?_)
            refine lv_iload hx hb dX3_near_89 (lv_at hl 0 rfl) ?_
            refine lv_bipush (v := -4) hx hb dX3_near_91 (by decide) ?_
            obtain ⟨x15, r15, b5⟩ := ob b5
            refine m_join (I := fun (t16 : Int32 × Int32) H locs ls => x15 = t16 ∧ mX G x10.1 H ∧ va_S (zA G) s.heap H locs ∧ lv_has ls 9 [(0, .ref (zh G)), (1, .int a1), (2, .int a2), (3, .int a3), (4, .int t16.1), (5, .int t16.2), (6, .int t5.2.2.2)]) 111 (fun t16 => []) (fun t16 H locs ls hi => ?_) (fun J15 => ?_)
            · obtain ⟨rfl, hX, hS, hl⟩ := hi
              refine lv_iinc (v := (t5.2.2.2 + (1 : Int32))) (k := 6) (lv' := [(6, .int (t5.2.2.2 + (1 : Int32))), (0, .ref (zh G)), (1, .int a1), (2, .int a2), (3, .int a3), (4, .int x15.1), (5, .int x15.2)]) hx hb dX3_near_111 hl rfl rfl (by decide) rfl (fun ls hl => ?_)
              refine lv_goto (tgt := 49) hx hb dX3_near_114 (by decide) ?_
              obtain ⟨g19, hg19⟩ : ∃ g, g = (t5.2.2.2 + (1 : Int32)) := ⟨_, rfl⟩
              rw [← hg19] at hl b5
              exact k5 _ (Option.some.inj b5).symm _ _ ls ⟨hX, hS, lv_sub hl [1, 2, 3, 4, 5, 6, 0] rfl⟩
            · refine lv_icmp_eq (tgt := 111) hx hb dX3_near_93 (by decide) (fun c17 => ?_) (fun c17 => ?_)
              · replace r15 := it c17 r15
                exact J15 _ _ _ ls ⟨(Option.some.inj r15).symm, hX, hS, lv_sub hl [1, 2, 3, 4, 5, 6, 7] rfl⟩
              · replace r15 := ie c17 r15
                refine lv_iload hx hb dX3_near_96 (lv_at hl 0 rfl) ?_
                refine lv_iload hx hb dX3_near_98 (lv_at hl 6 rfl) ?_
                refine lv_icmp_ge (tgt := 111) hx hb dX3_near_100 (by decide) (fun c18 => ?_) (fun c18 => ?_)
                · replace r15 := it c18 r15
                  exact J15 _ _ _ ls ⟨(Option.some.inj r15).symm, hX, hS, lv_sub hl [1, 2, 3, 4, 5, 6, 7] rfl⟩
                · replace r15 := ie c18 r15
                  refine lv_iload hx hb dX3_near_103 (lv_at hl 7 rfl) ?_
                  refine lv_istore (lv' := [(4, .int t5.2.2.2), (7, .int x10.2), (0, .ref (zh G)), (1, .int a1), (2, .int a2), (3, .int a3), (5, .int t5.2.2.1), (6, .int t5.2.2.2)]) hx hb dX3_near_105 hl (by decide) rfl (fun ls hl => ?_)
                  refine lv_iload hx hb dX3_near_107 (lv_at hl 1 rfl) ?_
                  refine lv_istore (lv' := [(5, .int x10.2), (4, .int t5.2.2.2), (7, .int x10.2), (0, .ref (zh G)), (1, .int a1), (2, .int a2), (3, .int a3), (6, .int t5.2.2.2)]) hx hb dX3_near_109 hl (by decide) rfl (fun ls hl => ?_)
                  exact J15 _ _ _ ls ⟨(Option.some.inj r15).symm, hX, hS, lv_sub hl [3, 4, 5, 6, 1, 0, 7] rfl⟩
          · refine lv_if_eq (tgt := 73) hx hb dX3_near_65 (by decide) (fun c12 => ?_) (fun c12 => ?_)
            · replace r10 := it c12 r10
              refine lv_aload_n hx hb dX3_near_73 rfl (lv_at hl 0 rfl) ?_
              refine lv_iconst (v := 0) hx hb dX3_near_74 (by decide) ?_
              refine lv_iload_n hx hb dX3_near_75 rfl (lv_at hl 1 rfl) ?_
              refine lv_aload_n hx hb dX3_near_76 rfl (lv_at hl 0 rfl) ?_
              refine m_ga (k := 19) (d := 0) C q1717 rfl (by decide) hX dX3_near_77 ?_
              refine lv_iload hx hb dX3_near_80 (lv_at hl 6 rfl) ?_
              obtain ⟨x13, e13, r10⟩ := ob r10
              refine m_ia (k := 19) C rfl hX e13 dX3_near_82 ?_
              refine lv_iload_n hx hb dX3_near_83 rfl (lv_at hl 2 rfl) ?_
              obtain ⟨x14, e14, r10⟩ := ob r10
              refine m_cvi (As := [.int (0 : Int32), .int a1, .int x13, .int a2]) (rest := []) C hX hS hl.1 (cm_wayOf l G hG t5.1 (0 : Int32) a1 x13 a2 e14) (cwV 4 hts (lw_V q2091 q2093 qs62 q109 q2094) rfl rfl rfl (by decide +kernel) ⟨Nat.le_of_ble_eq_true rfl, Nat.le_of_ble_eq_true rfl⟩) rfl rfl (Nat.le_of_ble_eq_true rfl) dX3_near_84 (fun H locs hX hS => ?_)
              exact J10 _ _ _ ls ⟨(Option.some.inj r10).symm, hX, hS, hl⟩
            · replace r10 := ie c12 r10
              refine lv_bipush (v := -4) hx hb dX3_near_68 (by decide) ?_
              refine lv_goto (tgt := 87) hx hb dX3_near_70 (by decide) ?_
              exact J10 _ _ _ ls ⟨(Option.some.inj r10).symm, hX, hS, hl⟩
      · replace hr := it c3 hr
        refine lv_iconst (v := -1) hx hb dX3_near_30 (by decide) ?_
        exact m_riw (C := C) hret hlk hX hS (Option.some.inj hr) dX3_near_31

def fm_entry (S : mS) (a1 : Int32) (a2 : Int32) (a3 : Int32) : Option (mS × Int32) :=
  (if (fm_isRoute S a1) = 0 then
  some (S, (-1 : Int32))
  else
  (if (fm_isGuide S a2) = 0 then
  some (S, (-1 : Int32))
  else
  (if (fm_in a3.toInt64 (1 : Int64) (95 : Int64)) = 0 then
  some (S, (-1 : Int32))
  else
  (if (gI S 73) = (14 : Int32) then
  some (S, (-3 : Int32))
  else
  (tI S 74 (gI S 73) a1).bind fun x5 =>
  (tI x5 75 (gI x5 73) a2).bind fun x6 =>
  (tI x6 76 (gI x6 73) a3).bind fun x7 =>
  (pI x7 73 ((gI x7 73) + (1 : Int32))).bind fun x8 =>
  some (x8, ((gI x8 73) - (1 : Int32)))))))
set_option maxHeartbeats 4000000 in
set_option maxRecDepth 100000 in
theorem cm_entry (l : Launch) (G : mGh) (hG : mOk G) (S : mS) (a1 : Int32) (a2 : Int32) (a3 : Int32) {S' : mS} {r : Int32} (hr : fm_entry S a1 a2 a3 = some (S', r)) : Met l yX3_entry (ws_ yX3_entry cX3_entry 4 (some .int)) ({ frames := 2, cells := 0, slots := 0, locals := 46 } : Room) (mPc G [.int a1, .int a2, .int a3] S) (mQi G r S') 0 0 (zA G) := by
  refine m_met cX3_entry (by decide) rfl hG (Nat.le_of_ble_eq_true rfl) (fun p e s m args below meth c C hret hlk ls hX hl => ?_)
  have hx := C.1.1
  have hb := C.1.2.1
  have hown := C.1.2.2.2.1
  have hts := C.1.2.2.2.2
  have hS : va_S (zA G) s.heap s.heap [] := va_S.rf
  have hl : lv_has ls 4 [(0, .ref (zh G)), (1, .int a1), (2, .int a2), (3, .int a3)] := hl
  unfold fm_entry at hr
  refine lv_aload_n hx hb dX3_entry_0 rfl (lv_at hl 0 rfl) ?_
  refine lv_iload_n hx hb dX3_entry_1 rfl (lv_at hl 1 rfl) ?_
  refine m_cvi (As := [.int a1]) (rest := []) C hX hS hl.1 (cm_isRoute l G hG S a1 rfl) (cwV 1 hts (lw_V q2003 q2005 qs52 q109 q2006) rfl rfl rfl (by decide +kernel) ⟨Nat.le_of_ble_eq_true rfl, Nat.le_of_ble_eq_true rfl⟩) rfl rfl (Nat.le_of_ble_eq_true rfl) dX3_entry_2 (fun H locs hX hS => ?_)
  refine lv_if_eq (tgt := 28) hx hb dX3_entry_5 (by decide) (fun c1 => ?_) (fun c1 => ?_)
  · replace hr := it c1 hr
    refine lv_iconst (v := -1) hx hb dX3_entry_28 (by decide) ?_
    exact m_riw (C := C) hret hlk hX hS (Option.some.inj hr) dX3_entry_29
  · replace hr := ie c1 hr
    refine lv_aload_n hx hb dX3_entry_8 rfl (lv_at hl 0 rfl) ?_
    refine lv_iload_n hx hb dX3_entry_9 rfl (lv_at hl 2 rfl) ?_
    refine m_cvi (As := [.int a2]) (rest := []) C hX hS hl.1 (cm_isGuide l G hG S a2 rfl) (cwV 1 hts (lw_V q2104 q2106 qs63 q109 q2107) rfl rfl rfl (by decide +kernel) ⟨Nat.le_of_ble_eq_true rfl, Nat.le_of_ble_eq_true rfl⟩) rfl rfl (Nat.le_of_ble_eq_true rfl) dX3_entry_10 (fun H locs hX hS => ?_)
    refine lv_if_eq (tgt := 28) hx hb dX3_entry_13 (by decide) (fun c2 => ?_) (fun c2 => ?_)
    · replace hr := it c2 hr
      refine lv_iconst (v := -1) hx hb dX3_entry_28 (by decide) ?_
      exact m_riw (C := C) hret hlk hX hS (Option.some.inj hr) dX3_entry_29
    · replace hr := ie c2 hr
      refine lv_iload_n hx hb dX3_entry_16 rfl (lv_at hl 3 rfl) ?_
      refine lv_i2l (v := a3.toInt64) hx hb dX3_entry_17 rfl ?_
      refine lv_lconst (v := 1) hx hb dX3_entry_18 (by decide) ?_
      refine lv_ldc2 hx hb hown (hts _ q2070) dX3_entry_19 ?_
      refine m_csi (As := [.long a3.toInt64, .long (1 : Int64), .long (95 : Int64)]) (rest := []) C hX hS hl.1 (cm_in l a3.toInt64 (1 : Int64) (95 : Int64) rfl) (va_cwS 3 hts (lw_S q1974 q1975 q109 q1976) rfl rfl rfl (by decide +kernel) ⟨Nat.le_of_ble_eq_true rfl, Nat.le_of_ble_eq_true rfl⟩) rfl rfl (Nat.le_of_ble_eq_true rfl) dX3_entry_22 (fun H locs hX hS => ?_)
      refine lv_if_ne (tgt := 30) hx hb dX3_entry_25 (by decide) (fun c3 => ?_) (fun c3 => ?_)
      · replace hr := ie c3 hr
        refine lv_aload_n hx hb dX3_entry_30 rfl (lv_at hl 0 rfl) ?_
        refine m_gi (k := 73) C q1771 rfl hX dX3_entry_31 ?_
        refine lv_bipush (v := 14) hx hb dX3_entry_34 (by decide) ?_
        refine lv_icmp_ne (tgt := 42) hx hb dX3_entry_36 (by decide) (fun c4 => ?_) (fun c4 => ?_)
        · replace hr := ie c4 hr
          refine lv_aload_n hx hb dX3_entry_42 rfl (lv_at hl 0 rfl) ?_
          refine m_ga (k := 74) (d := 0) C q1772 rfl (by decide) hX dX3_entry_43 ?_
          refine lv_aload_n hx hb dX3_entry_46 rfl (lv_at hl 0 rfl) ?_
          refine m_gi (k := 73) C q1771 rfl hX dX3_entry_47 ?_
          refine lv_iload_n hx hb dX3_entry_50 rfl (lv_at hl 1 rfl) ?_
          obtain ⟨x5, e5, hr⟩ := ob hr
          refine m_is (k := 74) C rfl hX hS e5 dX3_entry_51 (fun H locs hX hS => ?_)
          refine lv_aload_n hx hb dX3_entry_52 rfl (lv_at hl 0 rfl) ?_
          refine m_ga (k := 75) (d := 0) C q1773 rfl (by decide) hX dX3_entry_53 ?_
          refine lv_aload_n hx hb dX3_entry_56 rfl (lv_at hl 0 rfl) ?_
          refine m_gi (k := 73) C q1771 rfl hX dX3_entry_57 ?_
          refine lv_iload_n hx hb dX3_entry_60 rfl (lv_at hl 2 rfl) ?_
          obtain ⟨x6, e6, hr⟩ := ob hr
          refine m_is (k := 75) C rfl hX hS e6 dX3_entry_61 (fun H locs hX hS => ?_)
          refine lv_aload_n hx hb dX3_entry_62 rfl (lv_at hl 0 rfl) ?_
          refine m_ga (k := 76) (d := 0) C q1774 rfl (by decide) hX dX3_entry_63 ?_
          refine lv_aload_n hx hb dX3_entry_66 rfl (lv_at hl 0 rfl) ?_
          refine m_gi (k := 73) C q1771 rfl hX dX3_entry_67 ?_
          refine lv_iload_n hx hb dX3_entry_70 rfl (lv_at hl 3 rfl) ?_
          obtain ⟨x7, e7, hr⟩ := ob hr
          refine m_is (k := 76) C rfl hX hS e7 dX3_entry_71 (fun H locs hX hS => ?_)
          refine lv_aload_n hx hb dX3_entry_72 rfl (lv_at hl 0 rfl) ?_
          refine lv_dup hx hb dX3_entry_73 rfl ?_
          refine m_gi (k := 73) C q1771 rfl hX dX3_entry_74 ?_
          refine lv_iconst (v := 1) hx hb dX3_entry_77 (by decide) ?_
          refine lv_iadd hx hb dX3_entry_78 ?_
          obtain ⟨x8, e8, hr⟩ := ob hr
          refine m_pi (k := 73) C q1771 rfl hX hS e8 dX3_entry_79 (fun H locs hX hS => ?_)
          refine lv_aload_n hx hb dX3_entry_82 rfl (lv_at hl 0 rfl) ?_
          refine m_gi (k := 73) C q1771 rfl hX dX3_entry_83 ?_
          refine lv_iconst (v := 1) hx hb dX3_entry_86 (by decide) ?_
          refine lv_isub hx hb dX3_entry_87 ?_
          exact m_riw (C := C) hret hlk hX hS (Option.some.inj hr) dX3_entry_88
        · replace hr := it c4 hr
          refine lv_bipush (v := -3) hx hb dX3_entry_39 (by decide) ?_
          exact m_riw (C := C) hret hlk hX hS (Option.some.inj hr) dX3_entry_41
      · replace hr := it c3 hr
        refine lv_iconst (v := -1) hx hb dX3_entry_28 (by decide) ?_
        exact m_riw (C := C) hret hlk hX hS (Option.some.inj hr) dX3_entry_29

def fm_findLots_k136 (t22 : mS × Int32) (x30 : Int32) : Option ((mS × Int32) ⊕ (mS)) :=
  (aI t22.1 74 t22.2).bind fun x33 =>
  (tI t22.1 77 x33 x30).bind fun x34 =>
  (aI x34 75 t22.2).bind fun x35 =>
  (tI x34 77 ((6 : Int32) + x35) x30).bind fun x36 =>
  some (.inl (x36, (t22.2 + (1 : Int32))))
def fm_findLots_l88  (t22 : mS × Int32) : Option ((mS × Int32) ⊕ (mS)) :=
  (if (gI t22.1 73) ≤ t22.2 then
  some (.inr t22.1)
  else
  (aI t22.1 74 t22.2).bind fun x26 =>
  (aI t22.1 77 x26).bind fun x27 =>
  (aI t22.1 75 t22.2).bind fun x28 =>
  (aI t22.1 77 ((6 : Int32) + x28)).bind fun x29 =>
  (((if x29 ≤ x27 then
  some x29
  else
  some x27) : Option (Int32))).bind (fun x30 => fm_findLots_k136 t22 x30))
def fm_findLots_l80  (t18 : mS × Int32) : Option ((mS × Int32) ⊕ (mS)) :=
  (if (14 : Int32) ≤ t18.2 then
  some (.inr t18.1)
  else
  (loopO fm_findLots_l88 1000000 (t18.1, (0 : Int32))).bind (fun z24 =>
  some (.inl (z24, (t18.2 + (1 : Int32))))))
def fm_findLots_l24  (t7 : mS × Int32) : Option ((mS × Int32) ⊕ (mS)) :=
  (if (gI t7.1 73) ≤ t7.2 then
  some (.inr t7.1)
  else
  (aI t7.1 74 t7.2).bind fun x11 =>
  (aI t7.1 74 t7.2).bind fun x12 =>
  (tI t7.1 77 x11 x12).bind fun x13 =>
  (aI x13 75 t7.2).bind fun x14 =>
  (aI x13 75 t7.2).bind fun x15 =>
  (tI x13 77 ((6 : Int32) + x14) ((6 : Int32) + x15)).bind fun x16 =>
  some (.inl (x16, (t7.2 + (1 : Int32)))))
def fm_findLots_l2  (t1 : mS × Int32) : Option ((mS × Int32) ⊕ (mS)) :=
  (if (14 : Int32) ≤ t1.2 then
  some (.inr t1.1)
  else
  (tI t1.1 77 t1.2 (-4 : Int32)).bind fun x5 =>
  some (.inl (x5, (t1.2 + (1 : Int32)))))
def fm_findLots (S : mS) : Option mS :=
  (loopO fm_findLots_l2 1000000 (S, (0 : Int32))).bind (fun z3 =>
  (loopO fm_findLots_l24 1000000 (z3, (0 : Int32))).bind (fun z9 =>
  (loopO fm_findLots_l80 1000000 (z9, (0 : Int32))).bind (fun z20 =>
  some z20)))
set_option maxHeartbeats 4000000 in
set_option maxRecDepth 100000 in
theorem cm_findLots (l : Launch) (G : mGh) (hG : mOk G) (S : mS)  {S' : mS} (hr : fm_findLots S = some S') : Met l yX3_findLots (ws_ yX3_findLots cX3_findLots 6 none) ({ frames := 0, cells := 0, slots := 0, locals := 0 } : Room) (mPc G [] S) (mQv G S') 0 0 (zA G) := by
  refine m_met cX3_findLots (by decide) rfl hG (Nat.le_of_ble_eq_true rfl) (fun p e s m args below meth c C hret hlk ls hX hl => ?_)
  have hx := C.1.1
  have hb := C.1.2.1
  have hown := C.1.2.2.2.1
  have hts := C.1.2.2.2.2
  have hS : va_S (zA G) s.heap s.heap [] := va_S.rf
  have hl : lv_has ls 6 [(0, .ref (zh G))] := hl
  unfold fm_findLots at hr
  refine lv_iconst (v := 0) hx hb dX3_findLots_0 (by decide) ?_
  refine lv_istore_n (lv' := [(1, .int (0 : Int32)), (0, .ref (zh G))]) hx hb dX3_findLots_1 rfl hl (by decide) rfl (fun ls hl => ?_)
  obtain ⟨z3, e3, hr⟩ := ob hr
  refine m_join (I := fun (_ : Unit) H locs ls => mX G z3 H ∧ va_S (zA G) s.heap H locs ∧ lv_has ls 6 [(0, .ref (zh G))]) 22 (fun _ => []) (fun _ H locs ls hi => ?_) (fun J1_22 => ?_)
  · obtain ⟨hX, hS, hl⟩ := hi
    refine lv_iconst (v := 0) hx hb dX3_findLots_22 (by decide) ?_
    refine lv_istore_n (lv' := [(1, .int (0 : Int32)), (0, .ref (zh G))]) hx hb dX3_findLots_23 rfl hl (by decide) rfl (fun ls hl => ?_)
    obtain ⟨z9, e9, hr⟩ := ob hr
    refine m_join (I := fun (_ : Unit) H locs ls => mX G z9 H ∧ va_S (zA G) s.heap H locs ∧ lv_has ls 6 [(0, .ref (zh G))]) 78 (fun _ => []) (fun _ H locs ls hi => ?_) (fun J7_78 => ?_)
    · obtain ⟨hX, hS, hl⟩ := hi
      refine lv_iconst (v := 0) hx hb dX3_findLots_78 (by decide) ?_
      refine lv_istore_n (lv' := [(1, .int (0 : Int32)), (0, .ref (zh G))]) hx hb dX3_findLots_79 rfl hl (by decide) rfl (fun ls hl => ?_)
      obtain ⟨z20, e20, hr⟩ := ob hr
      refine m_join (I := fun (_ : Unit) H locs ls => mX G z20 H ∧ va_S (zA G) s.heap H locs ∧ lv_has ls 6 []) 179 (fun _ => []) (fun _ H locs ls hi => ?_) (fun J18_179 => ?_)
      · obtain ⟨hX, hS, hl⟩ := hi
        exact m_rvw (C := C) hret hlk hX hS (Option.some.inj hr) dX3_findLots_179
      refine m_loop e20 (fun (t18 : mS × Int32) H locs ls => mX G t18.1 H ∧ va_S (zA G) s.heap H locs ∧ lv_has ls 6 [(0, .ref (zh G)), (1, .int t18.2)]) 80 ⟨hX, hS, lv_sub hl [1, 0] rfl⟩ (fun t18 y18 b18 w18 k18 H locs ls hi => ?_)
      obtain ⟨hX, hS, hl⟩ := hi
      unfold fm_findLots_l80 at b18
      refine lv_iload_n hx hb dX3_findLots_80 rfl (lv_at hl 1 rfl) ?_
      refine lv_bipush (v := 14) hx hb dX3_findLots_81 (by decide) ?_
      refine lv_icmp_ge (tgt := 179) hx hb dX3_findLots_83 (by decide) (fun c21 => ?_) (fun c21 => ?_)
      · replace b18 := it c21 b18
        replace b18 := lx b18 w18
        subst b18
        exact J18_179 () _ _ ls ⟨hX, hS, lv_sub hl [] rfl⟩
      · replace b18 := ie c21 b18
        refine lv_iconst (v := 0) hx hb dX3_findLots_86 (by decide) ?_
        refine lv_istore_n (lv' := [(2, .int (0 : Int32)), (0, .ref (zh G)), (1, .int t18.2)]) hx hb dX3_findLots_87 rfl hl (by decide) rfl (fun ls hl => ?_)
        obtain ⟨z24, e24, b18⟩ := ob b18
        refine m_join (I := fun (_ : Unit) H locs ls => mX G z24 H ∧ va_S (zA G) s.heap H locs ∧ lv_has ls 6 [(0, .ref (zh G)), (1, .int t18.2)]) 173 (fun _ => []) (fun _ H locs ls hi => ?_) (fun J22_173 => ?_)
        · obtain ⟨hX, hS, hl⟩ := hi
          refine lv_iinc (v := (t18.2 + (1 : Int32))) (k := 1) (lv' := [(1, .int (t18.2 + (1 : Int32))), (0, .ref (zh G))]) hx hb dX3_findLots_173 hl rfl rfl (by decide) rfl (fun ls hl => ?_)
          refine lv_goto (tgt := 80) hx hb dX3_findLots_176 (by decide) ?_
          obtain ⟨g38, hg38⟩ : ∃ g, g = (t18.2 + (1 : Int32)) := ⟨_, rfl⟩
          rw [← hg38] at hl b18
          exact k18 _ (Option.some.inj b18).symm _ _ ls ⟨hX, hS, lv_sub hl [1, 0] rfl⟩
        refine m_loop e24 (fun (t22 : mS × Int32) H locs ls => mX G t22.1 H ∧ va_S (zA G) s.heap H locs ∧ lv_has ls 6 [(0, .ref (zh G)), (1, .int t18.2), (2, .int t22.2)]) 88 ⟨hX, hS, lv_sub hl [1, 2, 0] rfl⟩ (fun t22 y22 b22 w22 k22 H locs ls hi => ?_)
        obtain ⟨hX, hS, hl⟩ := hi
        unfold fm_findLots_l88 at b22
        refine lv_iload_n hx hb dX3_findLots_88 rfl (lv_at hl 2 rfl) ?_
        refine lv_aload_n hx hb dX3_findLots_89 rfl (lv_at hl 0 rfl) ?_
        refine m_gi (k := 73) C q1771 rfl hX dX3_findLots_90 ?_
        refine lv_icmp_ge (tgt := 173) hx hb dX3_findLots_93 (by decide) (fun c25 => ?_) (fun c25 => ?_)
        · replace b22 := it c25 b22
          replace b22 := lx b22 w22
          subst b22
          exact J22_173 () _ _ ls ⟨hX, hS, lv_sub hl [0, 1] rfl⟩
        · replace b22 := ie c25 b22
          refine lv_aload_n hx hb dX3_findLots_96 rfl (lv_at hl 0 rfl) ?_
          refine m_ga (k := 77) (d := 0) C q1775 rfl (by decide) hX dX3_findLots_97 ?_
          refine lv_aload_n hx hb dX3_findLots_100 rfl (lv_at hl 0 rfl) ?_
          refine m_ga (k := 74) (d := 0) C q1772 rfl (by decide) hX dX3_findLots_101 ?_
          refine lv_iload_n hx hb dX3_findLots_104 rfl (lv_at hl 2 rfl) ?_
          obtain ⟨x26, e26, b22⟩ := ob b22
          refine m_ia (k := 74) C rfl hX e26 dX3_findLots_105 ?_
          obtain ⟨x27, e27, b22⟩ := ob b22
          refine m_ia (k := 77) C rfl hX e27 dX3_findLots_106 ?_
          refine lv_istore_n (lv' := [(3, .int x27), (0, .ref (zh G)), (1, .int t18.2), (2, .int t22.2)]) hx hb dX3_findLots_107 rfl hl (by decide) rfl (fun ls hl => ?_)
          refine lv_aload_n hx hb dX3_findLots_108 rfl (lv_at hl 1 rfl) ?_
          refine m_ga (k := 77) (d := 0) C q1775 rfl (by decide) hX dX3_findLots_109 ?_
          refine lv_bipush (v := 6) hx hb dX3_findLots_112 (by decide) ?_
          refine lv_aload_n hx hb dX3_findLots_114 rfl (lv_at hl 1 rfl) ?_
          refine m_ga (k := 75) (d := 0) C q1773 rfl (by decide) hX dX3_findLots_115 ?_
          refine lv_iload_n hx hb dX3_findLots_118 rfl (lv_at hl 3 rfl) ?_
          obtain ⟨x28, e28, b22⟩ := ob b22
          refine m_ia (k := 75) C rfl hX e28 dX3_findLots_119 ?_
          refine lv_iadd hx hb dX3_findLots_120 ?_
          obtain ⟨x29, e29, b22⟩ := ob b22
          refine m_ia (k := 77) C rfl hX e29 dX3_findLots_121 ?_
          refine lv_istore (lv' := [(4, .int x29), (3, .int x27), (0, .ref (zh G)), (1, .int t18.2), (2, .int t22.2)]) hx hb dX3_findLots_122 hl (by decide) rfl (fun ls hl => ?_)
          refine lv_iload_n hx hb dX3_findLots_124 rfl (lv_at hl 1 rfl) ?_
          refine lv_iload hx hb dX3_findLots_125 (lv_at hl 0 rfl) ?_
          obtain ⟨x30, r30, b22⟩ := ob b22
          refine m_join (I := fun (t31 : Int32) H locs ls => x30 = t31 ∧ mX G t22.1 H ∧ va_S (zA G) s.heap H locs ∧ lv_has ls 6 [(0, .ref (zh G)), (1, .int t18.2), (2, .int t22.2)]) 136 (fun t31 => [.int t31]) (fun t31 H locs ls hi => ?_) (fun J30 => ?_)
          · obtain ⟨rfl, hX, hS, hl⟩ := hi
            unfold fm_findLots_k136 at b22
            refine lv_istore (lv' := [(5, .int x30), (0, .ref (zh G)), (1, .int t18.2), (2, .int t22.2)]) hx hb dX3_findLots_136 hl (by decide) rfl (fun ls hl => ?_)
            refine lv_aload_n hx hb dX3_findLots_138 rfl (lv_at hl 1 rfl) ?_
            refine m_ga (k := 77) (d := 0) C q1775 rfl (by decide) hX dX3_findLots_139 ?_
            refine lv_aload_n hx hb dX3_findLots_142 rfl (lv_at hl 1 rfl) ?_
            refine m_ga (k := 74) (d := 0) C q1772 rfl (by decide) hX dX3_findLots_143 ?_
            refine lv_iload_n hx hb dX3_findLots_146 rfl (lv_at hl 3 rfl) ?_
            obtain ⟨x33, e33, b22⟩ := ob b22
            refine m_ia (k := 74) C rfl hX e33 dX3_findLots_147 ?_
            refine lv_iload hx hb dX3_findLots_148 (lv_at hl 0 rfl) ?_
            obtain ⟨x34, e34, b22⟩ := ob b22
            refine m_is (k := 77) C rfl hX hS e34 dX3_findLots_150 (fun H locs hX hS => ?_)
            refine lv_aload_n hx hb dX3_findLots_151 rfl (lv_at hl 1 rfl) ?_
            refine m_ga (k := 77) (d := 0) C q1775 rfl (by decide) hX dX3_findLots_152 ?_
            refine lv_bipush (v := 6) hx hb dX3_findLots_155 (by decide) ?_
            refine lv_aload_n hx hb dX3_findLots_157 rfl (lv_at hl 1 rfl) ?_
            refine m_ga (k := 75) (d := 0) C q1773 rfl (by decide) hX dX3_findLots_158 ?_
            refine lv_iload_n hx hb dX3_findLots_161 rfl (lv_at hl 3 rfl) ?_
            obtain ⟨x35, e35, b22⟩ := ob b22
            refine m_ia (k := 75) C rfl hX e35 dX3_findLots_162 ?_
            refine lv_iadd hx hb dX3_findLots_163 ?_
            refine lv_iload hx hb dX3_findLots_164 (lv_at hl 0 rfl) ?_
            obtain ⟨x36, e36, b22⟩ := ob b22
            refine m_is (k := 77) C rfl hX hS e36 dX3_findLots_166 (fun H locs hX hS => ?_)
            refine lv_iinc (v := (t22.2 + (1 : Int32))) (k := 3) (lv' := [(2, .int (t22.2 + (1 : Int32))), (5, .int x30), (0, .ref (zh G)), (1, .int t18.2)]) hx hb dX3_findLots_167 hl rfl rfl (by decide) rfl (fun ls hl => ?_)
            refine lv_goto (tgt := 88) hx hb dX3_findLots_170 (by decide) ?_
            obtain ⟨g37, hg37⟩ : ∃ g, g = (t22.2 + (1 : Int32)) := ⟨_, rfl⟩
            rw [← hg37] at hl b22
            exact k22 _ (Option.some.inj b22).symm _ _ ls ⟨hX, hS, lv_sub hl [2, 3, 0] rfl⟩
          · refine lv_icmp_ge (tgt := 134) hx hb dX3_findLots_127 (by decide) (fun c32 => ?_) (fun c32 => ?_)
            · replace r30 := it c32 r30
              refine lv_iload hx hb dX3_findLots_134 (lv_at hl 0 rfl) ?_
              exact J30 _ _ _ ls ⟨(Option.some.inj r30).symm, hX, hS, lv_sub hl [2, 3, 4] rfl⟩
            · replace r30 := ie c32 r30
              refine lv_iload_n hx hb dX3_findLots_130 rfl (lv_at hl 1 rfl) ?_
              refine lv_goto (tgt := 136) hx hb dX3_findLots_131 (by decide) ?_
              exact J30 _ _ _ ls ⟨(Option.some.inj r30).symm, hX, hS, lv_sub hl [2, 3, 4] rfl⟩
    refine m_loop e9 (fun (t7 : mS × Int32) H locs ls => mX G t7.1 H ∧ va_S (zA G) s.heap H locs ∧ lv_has ls 6 [(0, .ref (zh G)), (1, .int t7.2)]) 24 ⟨hX, hS, lv_sub hl [1, 0] rfl⟩ (fun t7 y7 b7 w7 k7 H locs ls hi => ?_)
    obtain ⟨hX, hS, hl⟩ := hi
    unfold fm_findLots_l24 at b7
    refine lv_iload_n hx hb dX3_findLots_24 rfl (lv_at hl 1 rfl) ?_
    refine lv_aload_n hx hb dX3_findLots_25 rfl (lv_at hl 0 rfl) ?_
    refine m_gi (k := 73) C q1771 rfl hX dX3_findLots_26 ?_
    refine lv_icmp_ge (tgt := 78) hx hb dX3_findLots_29 (by decide) (fun c10 => ?_) (fun c10 => ?_)
    · replace b7 := it c10 b7
      replace b7 := lx b7 w7
      subst b7
      exact J7_78 () _ _ ls ⟨hX, hS, lv_sub hl [0] rfl⟩
    · replace b7 := ie c10 b7
      refine lv_aload_n hx hb dX3_findLots_32 rfl (lv_at hl 0 rfl) ?_
      refine m_ga (k := 77) (d := 0) C q1775 rfl (by decide) hX dX3_findLots_33 ?_
      refine lv_aload_n hx hb dX3_findLots_36 rfl (lv_at hl 0 rfl) ?_
      refine m_ga (k := 74) (d := 0) C q1772 rfl (by decide) hX dX3_findLots_37 ?_
      refine lv_iload_n hx hb dX3_findLots_40 rfl (lv_at hl 1 rfl) ?_
      obtain ⟨x11, e11, b7⟩ := ob b7
      refine m_ia (k := 74) C rfl hX e11 dX3_findLots_41 ?_
      refine lv_aload_n hx hb dX3_findLots_42 rfl (lv_at hl 0 rfl) ?_
      refine m_ga (k := 74) (d := 0) C q1772 rfl (by decide) hX dX3_findLots_43 ?_
      refine lv_iload_n hx hb dX3_findLots_46 rfl (lv_at hl 1 rfl) ?_
      obtain ⟨x12, e12, b7⟩ := ob b7
      refine m_ia (k := 74) C rfl hX e12 dX3_findLots_47 ?_
      obtain ⟨x13, e13, b7⟩ := ob b7
      refine m_is (k := 77) C rfl hX hS e13 dX3_findLots_48 (fun H locs hX hS => ?_)
      refine lv_aload_n hx hb dX3_findLots_49 rfl (lv_at hl 0 rfl) ?_
      refine m_ga (k := 77) (d := 0) C q1775 rfl (by decide) hX dX3_findLots_50 ?_
      refine lv_bipush (v := 6) hx hb dX3_findLots_53 (by decide) ?_
      refine lv_aload_n hx hb dX3_findLots_55 rfl (lv_at hl 0 rfl) ?_
      refine m_ga (k := 75) (d := 0) C q1773 rfl (by decide) hX dX3_findLots_56 ?_
      refine lv_iload_n hx hb dX3_findLots_59 rfl (lv_at hl 1 rfl) ?_
      obtain ⟨x14, e14, b7⟩ := ob b7
      refine m_ia (k := 75) C rfl hX e14 dX3_findLots_60 ?_
      refine lv_iadd hx hb dX3_findLots_61 ?_
      refine lv_bipush (v := 6) hx hb dX3_findLots_62 (by decide) ?_
      refine lv_aload_n hx hb dX3_findLots_64 rfl (lv_at hl 0 rfl) ?_
      refine m_ga (k := 75) (d := 0) C q1773 rfl (by decide) hX dX3_findLots_65 ?_
      refine lv_iload_n hx hb dX3_findLots_68 rfl (lv_at hl 1 rfl) ?_
      obtain ⟨x15, e15, b7⟩ := ob b7
      refine m_ia (k := 75) C rfl hX e15 dX3_findLots_69 ?_
      refine lv_iadd hx hb dX3_findLots_70 ?_
      obtain ⟨x16, e16, b7⟩ := ob b7
      refine m_is (k := 77) C rfl hX hS e16 dX3_findLots_71 (fun H locs hX hS => ?_)
      refine lv_iinc (v := (t7.2 + (1 : Int32))) (k := 1) (lv' := [(1, .int (t7.2 + (1 : Int32))), (0, .ref (zh G))]) hx hb dX3_findLots_72 hl rfl rfl (by decide) rfl (fun ls hl => ?_)
      refine lv_goto (tgt := 24) hx hb dX3_findLots_75 (by decide) ?_
      obtain ⟨g17, hg17⟩ : ∃ g, g = (t7.2 + (1 : Int32)) := ⟨_, rfl⟩
      rw [← hg17] at hl b7
      exact k7 _ (Option.some.inj b7).symm _ _ ls ⟨hX, hS, lv_sub hl [1, 0] rfl⟩
  refine m_loop e3 (fun (t1 : mS × Int32) H locs ls => mX G t1.1 H ∧ va_S (zA G) s.heap H locs ∧ lv_has ls 6 [(0, .ref (zh G)), (1, .int t1.2)]) 2 ⟨hX, hS, lv_sub hl [1, 0] rfl⟩ (fun t1 y1 b1 w1 k1 H locs ls hi => ?_)
  obtain ⟨hX, hS, hl⟩ := hi
  unfold fm_findLots_l2 at b1
  refine lv_iload_n hx hb dX3_findLots_2 rfl (lv_at hl 1 rfl) ?_
  refine lv_bipush (v := 14) hx hb dX3_findLots_3 (by decide) ?_
  refine lv_icmp_ge (tgt := 22) hx hb dX3_findLots_5 (by decide) (fun c4 => ?_) (fun c4 => ?_)
  · replace b1 := it c4 b1
    replace b1 := lx b1 w1
    subst b1
    exact J1_22 () _ _ ls ⟨hX, hS, lv_sub hl [0] rfl⟩
  · replace b1 := ie c4 b1
    refine lv_aload_n hx hb dX3_findLots_8 rfl (lv_at hl 0 rfl) ?_
    refine m_ga (k := 77) (d := 0) C q1775 rfl (by decide) hX dX3_findLots_9 ?_
    refine lv_iload_n hx hb dX3_findLots_12 rfl (lv_at hl 1 rfl) ?_
    refine lv_bipush (v := -4) hx hb dX3_findLots_13 (by decide) ?_
    obtain ⟨x5, e5, b1⟩ := ob b1
    refine m_is (k := 77) C rfl hX hS e5 dX3_findLots_15 (fun H locs hX hS => ?_)
    refine lv_iinc (v := (t1.2 + (1 : Int32))) (k := 1) (lv' := [(1, .int (t1.2 + (1 : Int32))), (0, .ref (zh G))]) hx hb dX3_findLots_16 hl rfl rfl (by decide) rfl (fun ls hl => ?_)
    refine lv_goto (tgt := 2) hx hb dX3_findLots_19 (by decide) ?_
    obtain ⟨g6, hg6⟩ : ∃ g, g = (t1.2 + (1 : Int32)) := ⟨_, rfl⟩
    rw [← hg6] at hl b1
    exact k1 _ (Option.some.inj b1).symm _ _ ls ⟨hX, hS, lv_sub hl [1, 0] rfl⟩
