/-! M's methods, printed by tool/genm.py -/
def fm_turn (S : mS) (a1 : Int32) (a2 : Int32) (a3 : Int32) (a4 : Int32) : Option (mS × Int32) :=
  (fm_isAsked S a1 a2 a3).bind fun x1 =>
  (if x1.2 = 0 then
  some (x1.1, (-1 : Int32))
  else
  (if 0 ≤ a4 then
  (fm_whyNow x1.1).bind fun x4 =>
  (if x4.2 = (-4 : Int32) then
  (fm_findTurn x4.1).bind fun x8 =>
  (if x8.2 ≤ a4 then
  some (x8.1, (-4 : Int32))
  else
  (aI x8.1 48 a4).bind fun x10 =>
  some (x8.1, x10))
  else
  (if (0 : Int32) ≤ a4 then
  some (x4.1, (-4 : Int32))
  else
  (aI x4.1 48 a4).bind fun x7 =>
  some (x4.1, x7)))
  else
  some (x1.1, (-1 : Int32))))
set_option maxHeartbeats 4000000 in
set_option maxRecDepth 100000 in
theorem cm_turn (l : Launch) (G : mGh) (hG : mOk G) (S : mS) (a1 : Int32) (a2 : Int32) (a3 : Int32) (a4 : Int32) {S' : mS} {r : Int32} (hr : fm_turn S a1 a2 a3 a4 = some (S', r)) : Met l yX3_turn (ws_ yX3_turn cX3_turn 6 (some .int)) ({ frames := 4, cells := 0, slots := 0, locals := 104 } : Room) (mPc G [.int a1, .int a2, .int a3, .int a4] S) (mQi G r S') 0 0 (zA G) := by
  refine m_met cX3_turn (by decide) rfl hG (Nat.le_of_ble_eq_true rfl) (fun p e s m args below meth c C hret hlk ls hX hl => ?_)
  have hx := C.1.1
  have hb := C.1.2.1
  have hown := C.1.2.2.2.1
  have hts := C.1.2.2.2.2
  have hS : va_S (zA G) s.heap s.heap [] := va_S.rf
  have hl : lv_has ls 6 [(0, .ref (zh G)), (1, .int a1), (2, .int a2), (3, .int a3), (4, .int a4)] := hl
  unfold fm_turn at hr
  refine lv_aload_n hx hb dX3_turn_0 rfl (lv_at hl 0 rfl) ?_
  refine lv_iload_n hx hb dX3_turn_1 rfl (lv_at hl 1 rfl) ?_
  refine lv_iload_n hx hb dX3_turn_2 rfl (lv_at hl 2 rfl) ?_
  refine lv_iload_n hx hb dX3_turn_3 rfl (lv_at hl 3 rfl) ?_
  obtain ⟨x1, e1, hr⟩ := ob hr
  refine m_cvi (As := [.int a1, .int a2, .int a3]) (rest := []) C hX hS hl.1 (cm_isAsked l G hG S a1 a2 a3 e1) (cwV 3 hts (lw_V q2213 q2215 qs80 q109 q2216) rfl rfl rfl (by decide +kernel) ⟨Nat.le_of_ble_eq_true rfl, Nat.le_of_ble_eq_true rfl⟩) rfl rfl (Nat.le_of_ble_eq_true rfl) dX3_turn_4 (fun H locs hX hS => ?_)
  refine lv_if_eq (tgt := 15) hx hb dX3_turn_7 (by decide) (fun c2 => ?_) (fun c2 => ?_)
  · replace hr := it c2 hr
    refine lv_iconst (v := -1) hx hb dX3_turn_15 (by decide) ?_
    exact m_riw (C := C) hret hlk hX hS (Option.some.inj hr) dX3_turn_16
  · replace hr := ie c2 hr
    refine lv_iload hx hb dX3_turn_10 (lv_at hl 4 rfl) ?_
    refine lv_if_ge (tgt := 17) hx hb dX3_turn_12 (by decide) (fun c3 => ?_) (fun c3 => ?_)
    · replace hr := it c3 hr
      refine lv_aload_n hx hb dX3_turn_17 rfl (lv_at hl 0 rfl) ?_
      obtain ⟨x4, e4, hr⟩ := ob hr
      refine m_cvi (As := []) (rest := []) C hX hS hl.1 (cm_whyNow l G hG x1.1  e4) (cwV 0 hts (lw_V q2221 q2223 qs82 q109 q2224) rfl rfl rfl (by decide +kernel) ⟨Nat.le_of_ble_eq_true rfl, Nat.le_of_ble_eq_true rfl⟩) rfl rfl (Nat.le_of_ble_eq_true rfl) dX3_turn_18 (fun H locs hX hS => ?_)
      refine lv_bipush (v := -4) hx hb dX3_turn_21 (by decide) ?_
      refine lv_icmp_ne (tgt := 33) hx hb dX3_turn_23 (by decide) (fun c5 => ?_) (fun c5 => ?_)
      · replace hr := ie c5 hr
        refine lv_iconst (v := 0) hx hb dX3_turn_33 (by decide) ?_
        refine lv_istore (lv' := [(5, .int (0 : Int32)), (0, .ref (zh G)), (1, .int a1), (2, .int a2), (3, .int a3), (4, .int a4)]) hx hb dX3_turn_34 hl (by decide) rfl (fun ls hl => ?_)
        refine lv_iload hx hb dX3_turn_36 (lv_at hl 5 rfl) ?_
        refine lv_iload hx hb dX3_turn_38 (lv_at hl 0 rfl) ?_
        refine lv_icmp_ge (tgt := 53) hx hb dX3_turn_40 (by decide) (fun c6 => ?_) (fun c6 => ?_)
        · replace hr := it c6 hr
          refine lv_bipush (v := -4) hx hb dX3_turn_53 (by decide) ?_
          exact m_riw (C := C) hret hlk hX hS (Option.some.inj hr) dX3_turn_55
        · replace hr := ie c6 hr
          refine lv_aload_n hx hb dX3_turn_43 rfl (lv_at hl 1 rfl) ?_
          refine m_ga (k := 48) (d := 0) C q1746 rfl (by decide) hX dX3_turn_44 ?_
          refine lv_iload hx hb dX3_turn_47 (lv_at hl 5 rfl) ?_
          obtain ⟨x7, e7, hr⟩ := ob hr
          refine m_ia (k := 48) C rfl hX e7 dX3_turn_49 ?_
          refine lv_goto (tgt := 55) hx hb dX3_turn_50 (by decide) ?_
          exact m_riw (C := C) hret hlk hX hS (Option.some.inj hr) dX3_turn_55
      · replace hr := it c5 hr
        refine lv_aload_n hx hb dX3_turn_26 rfl (lv_at hl 0 rfl) ?_
        obtain ⟨x8, e8, hr⟩ := ob hr
        refine m_cvi (As := []) (rest := []) C hX hS hl.1 (cm_findTurn l G hG x4.1  e8) (cwV 0 hts (lw_V q2255 q2257 qs86 q109 q2258) rfl rfl rfl (by decide +kernel) ⟨Nat.le_of_ble_eq_true rfl, Nat.le_of_ble_eq_true rfl⟩) rfl rfl (Nat.le_of_ble_eq_true rfl) dX3_turn_27 (fun H locs hX hS => ?_)
        refine lv_goto (tgt := 34) hx hb dX3_turn_30 (by decide) ?_
        refine lv_istore (lv' := [(5, .int x8.2), (0, .ref (zh G)), (1, .int a1), (2, .int a2), (3, .int a3), (4, .int a4)]) hx hb dX3_turn_34 hl (by decide) rfl (fun ls hl => ?_)
        refine lv_iload hx hb dX3_turn_36 (lv_at hl 5 rfl) ?_
        refine lv_iload hx hb dX3_turn_38 (lv_at hl 0 rfl) ?_
        refine lv_icmp_ge (tgt := 53) hx hb dX3_turn_40 (by decide) (fun c9 => ?_) (fun c9 => ?_)
        · replace hr := it c9 hr
          refine lv_bipush (v := -4) hx hb dX3_turn_53 (by decide) ?_
          exact m_riw (C := C) hret hlk hX hS (Option.some.inj hr) dX3_turn_55
        · replace hr := ie c9 hr
          refine lv_aload_n hx hb dX3_turn_43 rfl (lv_at hl 1 rfl) ?_
          refine m_ga (k := 48) (d := 0) C q1746 rfl (by decide) hX dX3_turn_44 ?_
          refine lv_iload hx hb dX3_turn_47 (lv_at hl 5 rfl) ?_
          obtain ⟨x10, e10, hr⟩ := ob hr
          refine m_ia (k := 48) C rfl hX e10 dX3_turn_49 ?_
          refine lv_goto (tgt := 55) hx hb dX3_turn_50 (by decide) ?_
          exact m_riw (C := C) hret hlk hX hS (Option.some.inj hr) dX3_turn_55
    · replace hr := ie c3 hr
      refine lv_iconst (v := -1) hx hb dX3_turn_15 (by decide) ?_
      exact m_riw (C := C) hret hlk hX hS (Option.some.inj hr) dX3_turn_16

def fm_go_l114  (t21 : mS × Int32) : Option ((mS × Int32) ⊕ (mS)) :=
  (if (gI t21.1 17) ≤ (t21.2 + (1 : Int32)) then
  some (.inr t21.1)
  else
  (aI t21.1 24 (t21.2 + (1 : Int32))).bind fun x25 =>
  (tI t21.1 24 t21.2 x25).bind fun x26 =>
  some (.inl (x26, (t21.2 + (1 : Int32)))))
def fm_go_l50 (x5 : (mS × Int32)) (x8 : Int32) (t9 : mS × Int32) : Option ((mS × Int32) ⊕ (mS)) :=
  (if x5.2 ≤ t9.2 then
  some (.inr t9.1)
  else
  (aI t9.1 48 t9.2).bind fun x13 =>
  (tZ t9.1 21 x13 (1 : Int32)).bind fun x14 =>
  (aI x14 22 x13).bind fun x15 =>
  (dI x8 (10 : Int32)).bind fun x16 =>
  (tI x14 22 x13 (x15 + (x8 - x16))).bind fun x17 =>
  (dI x8 (10 : Int32)).bind fun x18 =>
  (pI x17 26 ((gI x17 26) + x18)).bind fun x19 =>
  (fm_placeInList x19 x13).bind fun x20 =>
  (loopO fm_go_l114 1000000 (x19, x20)).bind (fun z23 =>
  (tI z23 24 ((gI z23 17) - (1 : Int32)) x13).bind fun x28 =>
  some (.inl (x28, (t9.2 + (1 : Int32))))))
def fm_go (S : mS) (a1 : Int32) (a2 : Int32) (a3 : Int32) : Option (mS × Int32) :=
  (fm_isAsked S a1 a2 a3).bind fun x1 =>
  (if x1.2 = 0 then
  some (x1.1, (-1 : Int32))
  else
  (fm_whyNow x1.1).bind fun x3 =>
  (if x3.2 = (-4 : Int32) then
  (fm_findTurn x3.1).bind fun x5 =>
  (if x5.2 = 0 then
  some (x5.1, (-4 : Int32))
  else
  (fm_payNow x5.1).bind fun x7 =>
  (dI x7.2 x5.2).bind fun x8 =>
  (loopO (fm_go_l50 x5 x8) 1000000 (x7.1, (0 : Int32))).bind (fun z11 =>
  some (z11, x5.2)))
  else
  some (x3.1, (-2 : Int32))))
set_option maxHeartbeats 4000000 in
set_option maxRecDepth 100000 in
theorem cm_go (l : Launch) (G : mGh) (hG : mOk G) (S : mS) (a1 : Int32) (a2 : Int32) (a3 : Int32) {S' : mS} {r : Int32} (hr : fm_go S a1 a2 a3 = some (S', r)) : Met l yX3_go (ws_ yX3_go cX3_go 9 (some .int)) ({ frames := 4, cells := 0, slots := 0, locals := 104 } : Room) (mPc G [.int a1, .int a2, .int a3] S) (mQi G r S') 0 0 (zA G) := by
  refine m_met cX3_go (by decide) rfl hG (Nat.le_of_ble_eq_true rfl) (fun p e s m args below meth c C hret hlk ls hX hl => ?_)
  have hx := C.1.1
  have hb := C.1.2.1
  have hown := C.1.2.2.2.1
  have hts := C.1.2.2.2.2
  have hS : va_S (zA G) s.heap s.heap [] := va_S.rf
  have hl : lv_has ls 9 [(0, .ref (zh G)), (1, .int a1), (2, .int a2), (3, .int a3)] := hl
  unfold fm_go at hr
  refine lv_aload_n hx hb dX3_go_0 rfl (lv_at hl 0 rfl) ?_
  refine lv_iload_n hx hb dX3_go_1 rfl (lv_at hl 1 rfl) ?_
  refine lv_iload_n hx hb dX3_go_2 rfl (lv_at hl 2 rfl) ?_
  refine lv_iload_n hx hb dX3_go_3 rfl (lv_at hl 3 rfl) ?_
  obtain ⟨x1, e1, hr⟩ := ob hr
  refine m_cvi (As := [.int a1, .int a2, .int a3]) (rest := []) C hX hS hl.1 (cm_isAsked l G hG S a1 a2 a3 e1) (cwV 3 hts (lw_V q2213 q2215 qs80 q109 q2216) rfl rfl rfl (by decide +kernel) ⟨Nat.le_of_ble_eq_true rfl, Nat.le_of_ble_eq_true rfl⟩) rfl rfl (Nat.le_of_ble_eq_true rfl) dX3_go_4 (fun H locs hX hS => ?_)
  refine lv_if_ne (tgt := 12) hx hb dX3_go_7 (by decide) (fun c2 => ?_) (fun c2 => ?_)
  · replace hr := ie c2 hr
    refine lv_aload_n hx hb dX3_go_12 rfl (lv_at hl 0 rfl) ?_
    obtain ⟨x3, e3, hr⟩ := ob hr
    refine m_cvi (As := []) (rest := []) C hX hS hl.1 (cm_whyNow l G hG x1.1  e3) (cwV 0 hts (lw_V q2221 q2223 qs82 q109 q2224) rfl rfl rfl (by decide +kernel) ⟨Nat.le_of_ble_eq_true rfl, Nat.le_of_ble_eq_true rfl⟩) rfl rfl (Nat.le_of_ble_eq_true rfl) dX3_go_13 (fun H locs hX hS => ?_)
    refine lv_bipush (v := -4) hx hb dX3_go_16 (by decide) ?_
    refine lv_icmp_eq (tgt := 24) hx hb dX3_go_18 (by decide) (fun c4 => ?_) (fun c4 => ?_)
    · replace hr := it c4 hr
      refine lv_aload_n hx hb dX3_go_24 rfl (lv_at hl 0 rfl) ?_
      obtain ⟨x5, e5, hr⟩ := ob hr
      refine m_cvi (As := []) (rest := []) C hX hS hl.1 (cm_findTurn l G hG x3.1  e5) (cwV 0 hts (lw_V q2255 q2257 qs86 q109 q2258) rfl rfl rfl (by decide +kernel) ⟨Nat.le_of_ble_eq_true rfl, Nat.le_of_ble_eq_true rfl⟩) rfl rfl (Nat.le_of_ble_eq_true rfl) dX3_go_25 (fun H locs hX hS => ?_)
      refine lv_istore (lv' := [(4, .int x5.2), (0, .ref (zh G)), (1, .int a1), (2, .int a2), (3, .int a3)]) hx hb dX3_go_28 hl (by decide) rfl (fun ls hl => ?_)
      refine lv_iload hx hb dX3_go_30 (lv_at hl 0 rfl) ?_
      refine lv_if_ne (tgt := 38) hx hb dX3_go_32 (by decide) (fun c6 => ?_) (fun c6 => ?_)
      · replace hr := ie c6 hr
        refine lv_aload_n hx hb dX3_go_38 rfl (lv_at hl 1 rfl) ?_
        obtain ⟨x7, e7, hr⟩ := ob hr
        refine m_cvi (As := []) (rest := []) C hX hS hl.1 (cm_payNow l G hG x5.1  e7) (cwV 0 hts (lw_V q2238 q2240 qs84 q109 q2241) rfl rfl rfl (by decide +kernel) ⟨Nat.le_of_ble_eq_true rfl, Nat.le_of_ble_eq_true rfl⟩) rfl rfl (Nat.le_of_ble_eq_true rfl) dX3_go_39 (fun H locs hX hS => ?_)
        refine lv_iload hx hb dX3_go_42 (lv_at hl 0 rfl) ?_
        obtain ⟨x8, e8, hr⟩ := ob hr
        refine m_id C e8 dX3_go_44 ?_
        refine lv_istore (lv' := [(5, .int x8), (4, .int x5.2), (0, .ref (zh G)), (1, .int a1), (2, .int a2), (3, .int a3)]) hx hb dX3_go_45 hl (by decide) rfl (fun ls hl => ?_)
        refine lv_iconst (v := 0) hx hb dX3_go_47 (by decide) ?_
        refine lv_istore (lv' := [(6, .int (0 : Int32)), (5, .int x8), (4, .int x5.2), (0, .ref (zh G)), (1, .int a1), (2, .int a2), (3, .int a3)]) hx hb dX3_go_48 hl (by decide) rfl (fun ls hl => ?_)
        obtain ⟨z11, e11, hr⟩ := ob hr
        refine m_join (I := fun (_ : Unit) H locs ls => mX G z11 H ∧ va_S (zA G) s.heap H locs ∧ lv_has ls 9 [(4, .int x5.2)]) 166 (fun _ => []) (fun _ H locs ls hi => ?_) (fun J9_166 => ?_)
        · obtain ⟨hX, hS, hl⟩ := hi
          refine lv_iload hx hb dX3_go_166 (lv_at hl 0 rfl) ?_
          exact m_riw (C := C) hret hlk hX hS (Option.some.inj hr) dX3_go_168
        refine m_loop e11 (fun (t9 : mS × Int32) H locs ls => mX G t9.1 H ∧ va_S (zA G) s.heap H locs ∧ lv_has ls 9 [(0, .ref (zh G)), (4, .int x5.2), (5, .int x8), (6, .int t9.2)]) 50 ⟨hX, hS, lv_sub hl [3, 2, 1, 0] rfl⟩ (fun t9 y9 b9 w9 k9 H locs ls hi => ?_)
        obtain ⟨hX, hS, hl⟩ := hi
        unfold fm_go_l50 at b9
        refine lv_iload hx hb dX3_go_50 (lv_at hl 3 rfl) ?_
        refine lv_iload hx hb dX3_go_52 (lv_at hl 1 rfl) ?_
        refine lv_icmp_ge (tgt := 166) hx hb dX3_go_54 (by decide) (fun c12 => ?_) (fun c12 => ?_)
        · replace b9 := it c12 b9
          replace b9 := lx b9 w9
          subst b9
          exact J9_166 () _ _ ls ⟨hX, hS, lv_sub hl [1] rfl⟩
        · replace b9 := ie c12 b9
          refine lv_aload_n hx hb dX3_go_57 rfl (lv_at hl 0 rfl) ?_
          refine m_ga (k := 48) (d := 0) C q1746 rfl (by decide) hX dX3_go_58 ?_
          refine lv_iload hx hb dX3_go_61 (lv_at hl 3 rfl) ?_
          obtain ⟨x13, e13, b9⟩ := ob b9
          refine m_ia (k := 48) C rfl hX e13 dX3_go_63 ?_
          refine lv_istore (lv' := [(7, .int x13), (0, .ref (zh G)), (4, .int x5.2), (5, .int x8), (6, .int t9.2)]) hx hb dX3_go_64 hl (by decide) rfl (fun ls hl => ?_)
          refine lv_aload_n hx hb dX3_go_66 rfl (lv_at hl 1 rfl) ?_
          refine m_ga (k := 21) (d := 1) C q1719 rfl (by decide) hX dX3_go_67 ?_
          refine lv_iload hx hb dX3_go_70 (lv_at hl 0 rfl) ?_
          refine lv_iconst (v := 1) hx hb dX3_go_72 (by decide) ?_
          obtain ⟨x14, e14, b9⟩ := ob b9
          refine m_zs (k := 21) C rfl hX hS e14 dX3_go_73 (fun H locs hX hS => ?_)
          refine lv_aload_n hx hb dX3_go_74 rfl (lv_at hl 1 rfl) ?_
          refine m_ga (k := 22) (d := 0) C q1720 rfl (by decide) hX dX3_go_75 ?_
          refine lv_iload hx hb dX3_go_78 (lv_at hl 0 rfl) ?_
          refine lv_dup2_11 hx hb dX3_go_80 rfl rfl ?_
          obtain ⟨x15, e15, b9⟩ := ob b9
          refine m_ia (k := 22) C rfl hX e15 dX3_go_81 ?_
          refine lv_iload hx hb dX3_go_82 (lv_at hl 3 rfl) ?_
          refine lv_iload hx hb dX3_go_84 (lv_at hl 3 rfl) ?_
          refine lv_bipush (v := 10) hx hb dX3_go_86 (by decide) ?_
          obtain ⟨x16, e16, b9⟩ := ob b9
          refine m_id C e16 dX3_go_88 ?_
          refine lv_isub hx hb dX3_go_89 ?_
          refine lv_iadd hx hb dX3_go_90 ?_
          obtain ⟨x17, e17, b9⟩ := ob b9
          refine m_is (k := 22) C rfl hX hS e17 dX3_go_91 (fun H locs hX hS => ?_)
          refine lv_aload_n hx hb dX3_go_92 rfl (lv_at hl 1 rfl) ?_
          refine lv_dup hx hb dX3_go_93 rfl ?_
          refine m_gi (k := 26) C q1724 rfl hX dX3_go_94 ?_
          refine lv_iload hx hb dX3_go_97 (lv_at hl 3 rfl) ?_
          refine lv_bipush (v := 10) hx hb dX3_go_99 (by decide) ?_
          obtain ⟨x18, e18, b9⟩ := ob b9
          refine m_id C e18 dX3_go_101 ?_
          refine lv_iadd hx hb dX3_go_102 ?_
          obtain ⟨x19, e19, b9⟩ := ob b9
          refine m_pi (k := 26) C q1724 rfl hX hS e19 dX3_go_103 (fun H locs hX hS => ?_)
          refine lv_aload_n hx hb dX3_go_106 rfl (lv_at hl 1 rfl) ?_
          refine lv_iload hx hb dX3_go_107 (lv_at hl 0 rfl) ?_
          obtain ⟨x20, e20, b9⟩ := ob b9
          refine m_cvi (As := [.int x13]) (rest := []) C hX hS hl.1 (cm_placeInList l G hG x19 x13 e20) (cwV 1 hts (lw_V q2113 q2115 qs64 q109 q2116) rfl rfl rfl (by decide +kernel) ⟨Nat.le_of_ble_eq_true rfl, Nat.le_of_ble_eq_true rfl⟩) rfl rfl (Nat.le_of_ble_eq_true rfl) dX3_go_109 (fun H locs hX hS => ?_)
          refine lv_istore (lv' := [(8, .int x20), (7, .int x13), (0, .ref (zh G)), (4, .int x5.2), (5, .int x8), (6, .int t9.2)]) hx hb dX3_go_112 hl (by decide) rfl (fun ls hl => ?_)
          obtain ⟨z23, e23, b9⟩ := ob b9
          refine m_join (I := fun (_ : Unit) H locs ls => mX G z23 H ∧ va_S (zA G) s.heap H locs ∧ lv_has ls 9 [(0, .ref (zh G)), (4, .int x5.2), (5, .int x8), (6, .int t9.2), (7, .int x13)]) 147 (fun _ => []) (fun _ H locs ls hi => ?_) (fun J21_147 => ?_)
          · obtain ⟨hX, hS, hl⟩ := hi
            refine lv_aload_n hx hb dX3_go_147 rfl (lv_at hl 0 rfl) ?_
            refine m_ga (k := 24) (d := 0) C q1722 rfl (by decide) hX dX3_go_148 ?_
            refine lv_aload_n hx hb dX3_go_151 rfl (lv_at hl 0 rfl) ?_
            refine m_gi (k := 17) C q1715 rfl hX dX3_go_152 ?_
            refine lv_iconst (v := 1) hx hb dX3_go_155 (by decide) ?_
            refine lv_isub hx hb dX3_go_156 ?_
            refine lv_iload hx hb dX3_go_157 (lv_at hl 4 rfl) ?_
            obtain ⟨x28, e28, b9⟩ := ob b9
            refine m_is (k := 24) C rfl hX hS e28 dX3_go_159 (fun H locs hX hS => ?_)
            refine lv_iinc (v := (t9.2 + (1 : Int32))) (k := 3) (lv' := [(6, .int (t9.2 + (1 : Int32))), (0, .ref (zh G)), (4, .int x5.2), (5, .int x8), (7, .int x13)]) hx hb dX3_go_160 hl rfl rfl (by decide) rfl (fun ls hl => ?_)
            refine lv_goto (tgt := 50) hx hb dX3_go_163 (by decide) ?_
            obtain ⟨g29, hg29⟩ : ∃ g, g = (t9.2 + (1 : Int32)) := ⟨_, rfl⟩
            rw [← hg29] at hl b9
            exact k9 _ (Option.some.inj b9).symm _ _ ls ⟨hX, hS, lv_sub hl [1, 2, 3, 0] rfl⟩
          refine m_loop e23 (fun (t21 : mS × Int32) H locs ls => mX G t21.1 H ∧ va_S (zA G) s.heap H locs ∧ lv_has ls 9 [(0, .ref (zh G)), (4, .int x5.2), (5, .int x8), (6, .int t9.2), (7, .int x13), (8, .int t21.2)]) 114 ⟨hX, hS, lv_sub hl [2, 3, 4, 5, 1, 0] rfl⟩ (fun t21 y21 b21 w21 k21 H locs ls hi => ?_)
          obtain ⟨hX, hS, hl⟩ := hi
          unfold fm_go_l114 at b21
          refine lv_iload hx hb dX3_go_114 (lv_at hl 5 rfl) ?_
          refine lv_iconst (v := 1) hx hb dX3_go_116 (by decide) ?_
          refine lv_iadd hx hb dX3_go_117 ?_
          refine lv_aload_n hx hb dX3_go_118 rfl (lv_at hl 0 rfl) ?_
          refine m_gi (k := 17) C q1715 rfl hX dX3_go_119 ?_
          refine lv_icmp_ge (tgt := 147) hx hb dX3_go_122 (by decide) (fun c24 => ?_) (fun c24 => ?_)
          · replace b21 := it c24 b21
            replace b21 := lx b21 w21
            subst b21
            exact J21_147 () _ _ ls ⟨hX, hS, lv_sub hl [0, 1, 2, 3, 4] rfl⟩
          · replace b21 := ie c24 b21
            refine lv_aload_n hx hb dX3_go_125 rfl (lv_at hl 0 rfl) ?_
            refine m_ga (k := 24) (d := 0) C q1722 rfl (by decide) hX dX3_go_126 ?_
            refine lv_iload hx hb dX3_go_129 (lv_at hl 5 rfl) ?_
            refine lv_aload_n hx hb dX3_go_131 rfl (lv_at hl 0 rfl) ?_
            refine m_ga (k := 24) (d := 0) C q1722 rfl (by decide) hX dX3_go_132 ?_
            refine lv_iload hx hb dX3_go_135 (lv_at hl 5 rfl) ?_
            refine lv_iconst (v := 1) hx hb dX3_go_137 (by decide) ?_
            refine lv_iadd hx hb dX3_go_138 ?_
            obtain ⟨x25, e25, b21⟩ := ob b21
            refine m_ia (k := 24) C rfl hX e25 dX3_go_139 ?_
            obtain ⟨x26, e26, b21⟩ := ob b21
            refine m_is (k := 24) C rfl hX hS e26 dX3_go_140 (fun H locs hX hS => ?_)
            refine lv_iinc (v := (t21.2 + (1 : Int32))) (k := 5) (lv' := [(8, .int (t21.2 + (1 : Int32))), (0, .ref (zh G)), (4, .int x5.2), (5, .int x8), (6, .int t9.2), (7, .int x13)]) hx hb dX3_go_141 hl rfl rfl (by decide) rfl (fun ls hl => ?_)
            refine lv_goto (tgt := 114) hx hb dX3_go_144 (by decide) ?_
            obtain ⟨g27, hg27⟩ : ∃ g, g = (t21.2 + (1 : Int32)) := ⟨_, rfl⟩
            rw [← hg27] at hl b21
            exact k21 _ (Option.some.inj b21).symm _ _ ls ⟨hX, hS, lv_sub hl [1, 2, 3, 4, 5, 0] rfl⟩
      · replace hr := it c6 hr
        refine lv_bipush (v := -4) hx hb dX3_go_35 (by decide) ?_
        exact m_riw (C := C) hret hlk hX hS (Option.some.inj hr) dX3_go_37
    · replace hr := ie c4 hr
      refine lv_bipush (v := -2) hx hb dX3_go_21 (by decide) ?_
      exact m_riw (C := C) hret hlk hX hS (Option.some.inj hr) dX3_go_23
  · replace hr := it c2 hr
    refine lv_iconst (v := -1) hx hb dX3_go_10 (by decide) ?_
    exact m_riw (C := C) hret hlk hX hS (Option.some.inj hr) dX3_go_11

def fm_person_l38  (t4 : mS × Int32) : Option ((mS × Int32) ⊕ (mS)) :=
  (if (9 : Int32) ≤ t4.2 then
  some (.inr t4.1)
  else
  (tI t4.1 51 (((9 : Int32) * (gI t4.1 49)) + t4.2) (0 : Int32)).bind fun x8 =>
  (tI x8 51 (((9 : Int32) * t4.2) + (gI x8 49)) (0 : Int32)).bind fun x9 =>
  some (.inl (x9, (t4.2 + (1 : Int32)))))
def fm_person (S : mS) (a1 : Int32) : Option (mS × Int32) :=
  (if (fm_in a1.toInt64 (0 : Int64) (9 : Int64)) = 0 then
  some (S, (-1 : Int32))
  else
  (if (gI S 49) = (9 : Int32) then
  some (S, (-3 : Int32))
  else
  (tI S 50 (gI S 49) a1).bind fun x3 =>
  (loopO fm_person_l38 1000000 (x3, (0 : Int32))).bind (fun z6 =>
  (pI z6 49 ((gI z6 49) + (1 : Int32))).bind fun x11 =>
  some (x11, ((gI x11 49) - (1 : Int32))))))
set_option maxHeartbeats 4000000 in
set_option maxRecDepth 100000 in
theorem cm_person (l : Launch) (G : mGh) (hG : mOk G) (S : mS) (a1 : Int32) {S' : mS} {r : Int32} (hr : fm_person S a1 = some (S', r)) : Met l yX3_person (ws_ yX3_person cX3_person 3 (some .int)) ({ frames := 1, cells := 0, slots := 0, locals := 25 } : Room) (mPc G [.int a1] S) (mQi G r S') 0 0 (zA G) := by
  refine m_met cX3_person (by decide) rfl hG (Nat.le_of_ble_eq_true rfl) (fun p e s m args below meth c C hret hlk ls hX hl => ?_)
  have hx := C.1.1
  have hb := C.1.2.1
  have hown := C.1.2.2.2.1
  have hts := C.1.2.2.2.2
  have hS : va_S (zA G) s.heap s.heap [] := va_S.rf
  have hl : lv_has ls 3 [(0, .ref (zh G)), (1, .int a1)] := hl
  unfold fm_person at hr
  refine lv_iload_n hx hb dX3_person_0 rfl (lv_at hl 1 rfl) ?_
  refine lv_i2l (v := a1.toInt64) hx hb dX3_person_1 rfl ?_
  refine lv_lconst (v := 0) hx hb dX3_person_2 (by decide) ?_
  refine lv_ldc2 hx hb hown (hts _ q1973) dX3_person_3 ?_
  refine m_csi (As := [.long a1.toInt64, .long (0 : Int64), .long (9 : Int64)]) (rest := []) C hX hS hl.1 (cm_in l a1.toInt64 (0 : Int64) (9 : Int64) rfl) (va_cwS 3 hts (lw_S q1974 q1975 q109 q1976) rfl rfl rfl (by decide +kernel) ⟨Nat.le_of_ble_eq_true rfl, Nat.le_of_ble_eq_true rfl⟩) rfl rfl (Nat.le_of_ble_eq_true rfl) dX3_person_6 (fun H locs hX hS => ?_)
  refine lv_if_ne (tgt := 14) hx hb dX3_person_9 (by decide) (fun c1 => ?_) (fun c1 => ?_)
  · replace hr := ie c1 hr
    refine lv_aload_n hx hb dX3_person_14 rfl (lv_at hl 0 rfl) ?_
    refine m_gi (k := 49) C q1747 rfl hX dX3_person_15 ?_
    refine lv_bipush (v := 9) hx hb dX3_person_18 (by decide) ?_
    refine lv_icmp_ne (tgt := 26) hx hb dX3_person_20 (by decide) (fun c2 => ?_) (fun c2 => ?_)
    · replace hr := ie c2 hr
      refine lv_aload_n hx hb dX3_person_26 rfl (lv_at hl 0 rfl) ?_
      refine m_ga (k := 50) (d := 0) C q1748 rfl (by decide) hX dX3_person_27 ?_
      refine lv_aload_n hx hb dX3_person_30 rfl (lv_at hl 0 rfl) ?_
      refine m_gi (k := 49) C q1747 rfl hX dX3_person_31 ?_
      refine lv_iload_n hx hb dX3_person_34 rfl (lv_at hl 1 rfl) ?_
      obtain ⟨x3, e3, hr⟩ := ob hr
      refine m_is (k := 50) C rfl hX hS e3 dX3_person_35 (fun H locs hX hS => ?_)
      refine lv_iconst (v := 0) hx hb dX3_person_36 (by decide) ?_
      refine lv_istore_n (lv' := [(2, .int (0 : Int32)), (0, .ref (zh G)), (1, .int a1)]) hx hb dX3_person_37 rfl hl (by decide) rfl (fun ls hl => ?_)
      obtain ⟨z6, e6, hr⟩ := ob hr
      refine m_join (I := fun (_ : Unit) H locs ls => mX G z6 H ∧ va_S (zA G) s.heap H locs ∧ lv_has ls 3 [(0, .ref (zh G))]) 80 (fun _ => []) (fun _ H locs ls hi => ?_) (fun J4_80 => ?_)
      · obtain ⟨hX, hS, hl⟩ := hi
        refine lv_aload_n hx hb dX3_person_80 rfl (lv_at hl 0 rfl) ?_
        refine lv_dup hx hb dX3_person_81 rfl ?_
        refine m_gi (k := 49) C q1747 rfl hX dX3_person_82 ?_
        refine lv_iconst (v := 1) hx hb dX3_person_85 (by decide) ?_
        refine lv_iadd hx hb dX3_person_86 ?_
        obtain ⟨x11, e11, hr⟩ := ob hr
        refine m_pi (k := 49) C q1747 rfl hX hS e11 dX3_person_87 (fun H locs hX hS => ?_)
        refine lv_aload_n hx hb dX3_person_90 rfl (lv_at hl 0 rfl) ?_
        refine m_gi (k := 49) C q1747 rfl hX dX3_person_91 ?_
        refine lv_iconst (v := 1) hx hb dX3_person_94 (by decide) ?_
        refine lv_isub hx hb dX3_person_95 ?_
        exact m_riw (C := C) hret hlk hX hS (Option.some.inj hr) dX3_person_96
      refine m_loop e6 (fun (t4 : mS × Int32) H locs ls => mX G t4.1 H ∧ va_S (zA G) s.heap H locs ∧ lv_has ls 3 [(0, .ref (zh G)), (2, .int t4.2)]) 38 ⟨hX, hS, lv_sub hl [1, 0] rfl⟩ (fun t4 y4 b4 w4 k4 H locs ls hi => ?_)
      obtain ⟨hX, hS, hl⟩ := hi
      unfold fm_person_l38 at b4
      refine lv_iload_n hx hb dX3_person_38 rfl (lv_at hl 1 rfl) ?_
      refine lv_bipush (v := 9) hx hb dX3_person_39 (by decide) ?_
      refine lv_icmp_ge (tgt := 80) hx hb dX3_person_41 (by decide) (fun c7 => ?_) (fun c7 => ?_)
      · replace b4 := it c7 b4
        replace b4 := lx b4 w4
        subst b4
        exact J4_80 () _ _ ls ⟨hX, hS, lv_sub hl [0] rfl⟩
      · replace b4 := ie c7 b4
        refine lv_aload_n hx hb dX3_person_44 rfl (lv_at hl 0 rfl) ?_
        refine m_ga (k := 51) (d := 0) C q1749 rfl (by decide) hX dX3_person_45 ?_
        refine lv_bipush (v := 9) hx hb dX3_person_48 (by decide) ?_
        refine lv_aload_n hx hb dX3_person_50 rfl (lv_at hl 0 rfl) ?_
        refine m_gi (k := 49) C q1747 rfl hX dX3_person_51 ?_
        refine lv_imul hx hb dX3_person_54 ?_
        refine lv_iload_n hx hb dX3_person_55 rfl (lv_at hl 1 rfl) ?_
        refine lv_iadd hx hb dX3_person_56 ?_
        refine lv_iconst (v := 0) hx hb dX3_person_57 (by decide) ?_
        obtain ⟨x8, e8, b4⟩ := ob b4
        refine m_is (k := 51) C rfl hX hS e8 dX3_person_58 (fun H locs hX hS => ?_)
        refine lv_aload_n hx hb dX3_person_59 rfl (lv_at hl 0 rfl) ?_
        refine m_ga (k := 51) (d := 0) C q1749 rfl (by decide) hX dX3_person_60 ?_
        refine lv_bipush (v := 9) hx hb dX3_person_63 (by decide) ?_
        refine lv_iload_n hx hb dX3_person_65 rfl (lv_at hl 1 rfl) ?_
        refine lv_imul hx hb dX3_person_66 ?_
        refine lv_aload_n hx hb dX3_person_67 rfl (lv_at hl 0 rfl) ?_
        refine m_gi (k := 49) C q1747 rfl hX dX3_person_68 ?_
        refine lv_iadd hx hb dX3_person_71 ?_
        refine lv_iconst (v := 0) hx hb dX3_person_72 (by decide) ?_
        obtain ⟨x9, e9, b4⟩ := ob b4
        refine m_is (k := 51) C rfl hX hS e9 dX3_person_73 (fun H locs hX hS => ?_)
        refine lv_iinc (v := (t4.2 + (1 : Int32))) (k := 1) (lv' := [(2, .int (t4.2 + (1 : Int32))), (0, .ref (zh G))]) hx hb dX3_person_74 hl rfl rfl (by decide) rfl (fun ls hl => ?_)
        refine lv_goto (tgt := 38) hx hb dX3_person_77 (by decide) ?_
        obtain ⟨g10, hg10⟩ : ∃ g, g = (t4.2 + (1 : Int32)) := ⟨_, rfl⟩
        rw [← hg10] at hl b4
        exact k4 _ (Option.some.inj b4).symm _ _ ls ⟨hX, hS, lv_sub hl [1, 0] rfl⟩
    · replace hr := it c2 hr
      refine lv_bipush (v := -3) hx hb dX3_person_23 (by decide) ?_
      exact m_riw (C := C) hret hlk hX hS (Option.some.inj hr) dX3_person_25
  · replace hr := it c1 hr
    refine lv_iconst (v := -1) hx hb dX3_person_12 (by decide) ?_
    exact m_riw (C := C) hret hlk hX hS (Option.some.inj hr) dX3_person_13

def fm_wish (S : mS) (a1 : Int32) (a2 : Int32) (a3 : Int32) : Option (mS × Int32) :=
  (if (fm_in a1.toInt64 (0 : Int64) (((gI S 49) - (1 : Int32)).toInt64)) = 0 then
  some (S, (-100 : Int32))
  else
  (if (fm_in a2.toInt64 (0 : Int64) (((gI S 49) - (1 : Int32)).toInt64)) = 0 then
  some (S, (-100 : Int32))
  else
  (if a1 = a2 then
  some (S, (-100 : Int32))
  else
  (if (fm_in a3.toInt64 (-9 : Int64) (9 : Int64)) = 0 then
  some (S, (-100 : Int32))
  else
  (aI S 51 (((9 : Int32) * a1) + a2)).bind fun x5 =>
  (tI S 51 (((9 : Int32) * a1) + a2) a3).bind fun x6 =>
  some (x6, x5)))))
set_option maxHeartbeats 4000000 in
set_option maxRecDepth 100000 in
theorem cm_wish (l : Launch) (G : mGh) (hG : mOk G) (S : mS) (a1 : Int32) (a2 : Int32) (a3 : Int32) {S' : mS} {r : Int32} (hr : fm_wish S a1 a2 a3 = some (S', r)) : Met l yX3_wish (ws_ yX3_wish cX3_wish 5 (some .int)) ({ frames := 1, cells := 0, slots := 0, locals := 25 } : Room) (mPc G [.int a1, .int a2, .int a3] S) (mQi G r S') 0 0 (zA G) := by
  refine m_met cX3_wish (by decide) rfl hG (Nat.le_of_ble_eq_true rfl) (fun p e s m args below meth c C hret hlk ls hX hl => ?_)
  have hx := C.1.1
  have hb := C.1.2.1
  have hown := C.1.2.2.2.1
  have hts := C.1.2.2.2.2
  have hS : va_S (zA G) s.heap s.heap [] := va_S.rf
  have hl : lv_has ls 5 [(0, .ref (zh G)), (1, .int a1), (2, .int a2), (3, .int a3)] := hl
  unfold fm_wish at hr
  refine lv_iload_n hx hb dX3_wish_0 rfl (lv_at hl 1 rfl) ?_
  refine lv_i2l (v := a1.toInt64) hx hb dX3_wish_1 rfl ?_
  refine lv_lconst (v := 0) hx hb dX3_wish_2 (by decide) ?_
  refine lv_aload_n hx hb dX3_wish_3 rfl (lv_at hl 0 rfl) ?_
  refine m_gi (k := 49) C q1747 rfl hX dX3_wish_4 ?_
  refine lv_iconst (v := 1) hx hb dX3_wish_7 (by decide) ?_
  refine lv_isub hx hb dX3_wish_8 ?_
  refine lv_i2l (v := ((gI S 49) - (1 : Int32)).toInt64) hx hb dX3_wish_9 rfl ?_
  refine m_csi (As := [.long a1.toInt64, .long (0 : Int64), .long (((gI S 49) - (1 : Int32)).toInt64)]) (rest := []) C hX hS hl.1 (cm_in l a1.toInt64 (0 : Int64) (((gI S 49) - (1 : Int32)).toInt64) rfl) (va_cwS 3 hts (lw_S q1974 q1975 q109 q1976) rfl rfl rfl (by decide +kernel) ⟨Nat.le_of_ble_eq_true rfl, Nat.le_of_ble_eq_true rfl⟩) rfl rfl (Nat.le_of_ble_eq_true rfl) dX3_wish_10 (fun H locs hX hS => ?_)
  refine lv_if_eq (tgt := 51) hx hb dX3_wish_13 (by decide) (fun c1 => ?_) (fun c1 => ?_)
  · replace hr := it c1 hr
    refine lv_bipush (v := -100) hx hb dX3_wish_51 (by decide) ?_
    exact m_riw (C := C) hret hlk hX hS (Option.some.inj hr) dX3_wish_53
  · replace hr := ie c1 hr
    refine lv_iload_n hx hb dX3_wish_16 rfl (lv_at hl 2 rfl) ?_
    refine lv_i2l (v := a2.toInt64) hx hb dX3_wish_17 rfl ?_
    refine lv_lconst (v := 0) hx hb dX3_wish_18 (by decide) ?_
    refine lv_aload_n hx hb dX3_wish_19 rfl (lv_at hl 0 rfl) ?_
    refine m_gi (k := 49) C q1747 rfl hX dX3_wish_20 ?_
    refine lv_iconst (v := 1) hx hb dX3_wish_23 (by decide) ?_
    refine lv_isub hx hb dX3_wish_24 ?_
    refine lv_i2l (v := ((gI S 49) - (1 : Int32)).toInt64) hx hb dX3_wish_25 rfl ?_
    refine m_csi (As := [.long a2.toInt64, .long (0 : Int64), .long (((gI S 49) - (1 : Int32)).toInt64)]) (rest := []) C hX hS hl.1 (cm_in l a2.toInt64 (0 : Int64) (((gI S 49) - (1 : Int32)).toInt64) rfl) (va_cwS 3 hts (lw_S q1974 q1975 q109 q1976) rfl rfl rfl (by decide +kernel) ⟨Nat.le_of_ble_eq_true rfl, Nat.le_of_ble_eq_true rfl⟩) rfl rfl (Nat.le_of_ble_eq_true rfl) dX3_wish_26 (fun H locs hX hS => ?_)
    refine lv_if_eq (tgt := 51) hx hb dX3_wish_29 (by decide) (fun c2 => ?_) (fun c2 => ?_)
    · replace hr := it c2 hr
      refine lv_bipush (v := -100) hx hb dX3_wish_51 (by decide) ?_
      exact m_riw (C := C) hret hlk hX hS (Option.some.inj hr) dX3_wish_53
    · replace hr := ie c2 hr
      refine lv_iload_n hx hb dX3_wish_32 rfl (lv_at hl 1 rfl) ?_
      refine lv_iload_n hx hb dX3_wish_33 rfl (lv_at hl 2 rfl) ?_
      refine lv_icmp_eq (tgt := 51) hx hb dX3_wish_34 (by decide) (fun c3 => ?_) (fun c3 => ?_)
      · replace hr := it c3 hr
        refine lv_bipush (v := -100) hx hb dX3_wish_51 (by decide) ?_
        exact m_riw (C := C) hret hlk hX hS (Option.some.inj hr) dX3_wish_53
      · replace hr := ie c3 hr
        refine lv_iload_n hx hb dX3_wish_37 rfl (lv_at hl 3 rfl) ?_
        refine lv_i2l (v := a3.toInt64) hx hb dX3_wish_38 rfl ?_
        refine lv_ldc2 hx hb hown (hts _ q2271) dX3_wish_39 ?_
        refine lv_ldc2 hx hb hown (hts _ q1973) dX3_wish_42 ?_
        refine m_csi (As := [.long a3.toInt64, .long (-9 : Int64), .long (9 : Int64)]) (rest := []) C hX hS hl.1 (cm_in l a3.toInt64 (-9 : Int64) (9 : Int64) rfl) (va_cwS 3 hts (lw_S q1974 q1975 q109 q1976) rfl rfl rfl (by decide +kernel) ⟨Nat.le_of_ble_eq_true rfl, Nat.le_of_ble_eq_true rfl⟩) rfl rfl (Nat.le_of_ble_eq_true rfl) dX3_wish_45 (fun H locs hX hS => ?_)
        refine lv_if_ne (tgt := 54) hx hb dX3_wish_48 (by decide) (fun c4 => ?_) (fun c4 => ?_)
        · replace hr := ie c4 hr
          refine lv_aload_n hx hb dX3_wish_54 rfl (lv_at hl 0 rfl) ?_
          refine m_ga (k := 51) (d := 0) C q1749 rfl (by decide) hX dX3_wish_55 ?_
          refine lv_bipush (v := 9) hx hb dX3_wish_58 (by decide) ?_
          refine lv_iload_n hx hb dX3_wish_60 rfl (lv_at hl 1 rfl) ?_
          refine lv_imul hx hb dX3_wish_61 ?_
          refine lv_iload_n hx hb dX3_wish_62 rfl (lv_at hl 2 rfl) ?_
          refine lv_iadd hx hb dX3_wish_63 ?_
          obtain ⟨x5, e5, hr⟩ := ob hr
          refine m_ia (k := 51) C rfl hX e5 dX3_wish_64 ?_
          refine lv_istore (lv' := [(4, .int x5), (0, .ref (zh G)), (1, .int a1), (2, .int a2), (3, .int a3)]) hx hb dX3_wish_65 hl (by decide) rfl (fun ls hl => ?_)
          refine lv_aload_n hx hb dX3_wish_67 rfl (lv_at hl 1 rfl) ?_
          refine m_ga (k := 51) (d := 0) C q1749 rfl (by decide) hX dX3_wish_68 ?_
          refine lv_bipush (v := 9) hx hb dX3_wish_71 (by decide) ?_
          refine lv_iload_n hx hb dX3_wish_73 rfl (lv_at hl 2 rfl) ?_
          refine lv_imul hx hb dX3_wish_74 ?_
          refine lv_iload_n hx hb dX3_wish_75 rfl (lv_at hl 3 rfl) ?_
          refine lv_iadd hx hb dX3_wish_76 ?_
          refine lv_iload_n hx hb dX3_wish_77 rfl (lv_at hl 4 rfl) ?_
          obtain ⟨x6, e6, hr⟩ := ob hr
          refine m_is (k := 51) C rfl hX hS e6 dX3_wish_78 (fun H locs hX hS => ?_)
          refine lv_iload hx hb dX3_wish_79 (lv_at hl 0 rfl) ?_
          exact m_riw (C := C) hret hlk hX hS (Option.some.inj hr) dX3_wish_81
        · replace hr := it c4 hr
          refine lv_bipush (v := -100) hx hb dX3_wish_51 (by decide) ?_
          exact m_riw (C := C) hret hlk hX hS (Option.some.inj hr) dX3_wish_53

def fm_bits_l4 (a1 : Int32) (t1 : Int32 × Int32) : Option ((Int32 × Int32) ⊕ (Int32)) :=
  (if (9 : Int32) ≤ t1.2 then
  some (.inr t1.1)
  else
  some (.inl ((t1.1 + ((a1 >>> (t1.2 &&& 31)) &&& (1 : Int32))), (t1.2 + (1 : Int32)))))
def fm_bits (a1 : Int32) : Option Int32 :=
  (loopO (fm_bits_l4 a1) 1000000 ((0 : Int32), (0 : Int32))).bind (fun z3 =>
  some z3)
set_option maxHeartbeats 4000000 in
set_option maxRecDepth 100000 in
theorem cm_bits (l : Launch) (a1 : Int32) {r : Int32} (hr : fm_bits a1 = some r) : Met l yX3_bits (ws_ yX3_bits cX3_bits 3 (some .int)) ({ frames := 0, cells := 0, slots := 0, locals := 0 } : Room) (nPc [.int a1]) (nQi r) 0 0 (fun _ => False) := by
  refine n_met cX3_bits RX3 (by decide) rfl (Nat.le_of_ble_eq_true rfl) (fun p e s m args below meth c C hret hlk ls hl => ?_)
  have hx := C.1
  have hb := C.2.1
  have hown := C.2.2.2.1
  have hts := C.2.2.2.2
  have hl : lv_has ls 3 [(0, .int a1)] := hl
  unfold fm_bits at hr
  refine lv_iconst (v := 0) hx hb dX3_bits_0 (by decide) ?_
  refine lv_istore_n (lv' := [(1, .int (0 : Int32)), (0, .int a1)]) hx hb dX3_bits_1 rfl hl (by decide) rfl (fun ls hl => ?_)
  refine lv_iconst (v := 0) hx hb dX3_bits_2 (by decide) ?_
  refine lv_istore_n (lv' := [(2, .int (0 : Int32)), (1, .int (0 : Int32)), (0, .int a1)]) hx hb dX3_bits_3 rfl hl (by decide) rfl (fun ls hl => ?_)
  obtain ⟨z3, e3, hr⟩ := ob hr
  refine m_join (I := fun (_ : Unit) H locs ls => H = s.heap ∧ locs = [] ∧ lv_has ls 3 [(1, .int z3)]) 24 (fun _ => []) (fun _ H locs ls hi => ?_) (fun J1_24 => ?_)
  · obtain ⟨rfl, rfl, hl⟩ := hi
    refine lv_iload_n hx hb dX3_bits_24 rfl (lv_at hl 0 rfl) ?_
    exact n_ri hx hb hret hlk (Option.some.inj hr) dX3_bits_25
  refine m_loop e3 (fun (t1 : Int32 × Int32) H locs ls => H = s.heap ∧ locs = [] ∧ lv_has ls 3 [(0, .int a1), (1, .int t1.1), (2, .int t1.2)]) 4 ⟨rfl, rfl, lv_sub hl [2, 1, 0] rfl⟩ (fun t1 y1 b1 w1 k1 H locs ls hi => ?_)
  obtain ⟨rfl, rfl, hl⟩ := hi
  unfold fm_bits_l4 at b1
  refine lv_iload_n hx hb dX3_bits_4 rfl (lv_at hl 2 rfl) ?_
  refine lv_bipush (v := 9) hx hb dX3_bits_5 (by decide) ?_
  refine lv_icmp_ge (tgt := 24) hx hb dX3_bits_7 (by decide) (fun c4 => ?_) (fun c4 => ?_)
  · replace b1 := it c4 b1
    replace b1 := lx b1 w1
    subst b1
    exact J1_24 () _ _ ls ⟨rfl, rfl, lv_sub hl [1] rfl⟩
  · replace b1 := ie c4 b1
    refine lv_iload_n hx hb dX3_bits_10 rfl (lv_at hl 1 rfl) ?_
    refine lv_iload_n hx hb dX3_bits_11 rfl (lv_at hl 0 rfl) ?_
    refine lv_iload_n hx hb dX3_bits_12 rfl (lv_at hl 2 rfl) ?_
    refine lv_ishr hx hb dX3_bits_13 ?_
    refine lv_iconst (v := 1) hx hb dX3_bits_14 (by decide) ?_
    refine lv_iand hx hb dX3_bits_15 ?_
    refine lv_iadd hx hb dX3_bits_16 ?_
    refine lv_istore_n (lv' := [(1, .int (t1.1 + ((a1 >>> (t1.2 &&& 31)) &&& (1 : Int32)))), (0, .int a1), (2, .int t1.2)]) hx hb dX3_bits_17 rfl hl (by decide) rfl (fun ls hl => ?_)
    refine lv_iinc (v := (t1.2 + (1 : Int32))) (k := 2) (lv' := [(2, .int (t1.2 + (1 : Int32))), (1, .int (t1.1 + ((a1 >>> (t1.2 &&& 31)) &&& (1 : Int32)))), (0, .int a1)]) hx hb dX3_bits_18 hl rfl rfl (by decide) rfl (fun ls hl => ?_)
    refine lv_goto (tgt := 4) hx hb dX3_bits_21 (by decide) ?_
    obtain ⟨g5, hg5⟩ : ∃ g, g = (t1.1 + ((a1 >>> (t1.2 &&& 31)) &&& (1 : Int32))) := ⟨_, rfl⟩
    rw [← hg5] at hl b1
    obtain ⟨g6, hg6⟩ : ∃ g, g = (t1.2 + (1 : Int32)) := ⟨_, rfl⟩
    rw [← hg6] at hl b1
    exact k1 _ (Option.some.inj b1).symm _ _ ls ⟨rfl, rfl, lv_sub hl [2, 1, 0] rfl⟩

def fm_ropeWorth_k82 (S : mS) (a1 : Int32) (t1 : Int32 × Int32 × Int32) (z7 : Int32) : Option ((Int32 × Int32 × Int32) ⊕ (Int32 × Int32)) :=
  (((if ((a1 >>> (t1.2.2 &&& 31)) &&& (1 : Int32)) = (1 : Int32) then
  (aI S 50 t1.2.2).bind fun x20 =>
  some x20
  else
  some (0 : Int32)) : Option (Int32))).bind (fun x17 =>
  some (.inl (z7, (t1.2.1 + x17), (t1.2.2 + (1 : Int32)))))
def fm_ropeWorth_l20 (S : mS) (a1 : Int32) (t1 : Int32 × Int32 × Int32) (t5 : Int32 × Int32) : Option ((Int32 × Int32) ⊕ (Int32)) :=
  (if (gI S 49) ≤ t5.2 then
  some (.inr t5.1)
  else
  (((if ((a1 >>> (t1.2.2 &&& 31)) &&& (1 : Int32)) = (1 : Int32) then
  (if ((a1 >>> (t5.2 &&& 31)) &&& (1 : Int32)) = (1 : Int32) then
  (if t1.2.2 = t5.2 then
  some (0 : Int32)
  else
  (aI S 51 (((9 : Int32) * t1.2.2) + t5.2)).bind fun x14 =>
  some x14)
  else
  some (0 : Int32))
  else
  some (0 : Int32)) : Option (Int32))).bind (fun x9 =>
  some (.inl ((t5.1 + x9), (t5.2 + (1 : Int32))))))
def fm_ropeWorth_k114 (a1 : Int32) (a2 : Int32) (z3 : Int32 × Int32) : Option (Int32) :=
  (fm_bits a1).bind fun x23 =>
  (if (fm_in x23.toInt64 (2 : Int64) (3 : Int64)) = 0 then
  some (-100000 : Int32)
  else
  (if z3.2 < a2 then
  some (-100000 : Int32)
  else
  some z3.1))
def fm_ropeWorth_l8 (S : mS) (a1 : Int32) (t1 : Int32 × Int32 × Int32) : Option ((Int32 × Int32 × Int32) ⊕ (Int32 × Int32)) :=
  (if (gI S 49) ≤ t1.2.2 then
  some (.inr (t1.1, t1.2.1))
  else
  (loopO (fm_ropeWorth_l20 S a1 t1) 1000000 (t1.1, (0 : Int32))).bind (fun z7 => fm_ropeWorth_k82 S a1 t1 z7))
def fm_ropeWorth (S : mS) (a1 : Int32) (a2 : Int32) : Option Int32 :=
  (loopO (fm_ropeWorth_l8 S a1) 1000000 ((0 : Int32), (0 : Int32), (0 : Int32))).bind (fun z3 => fm_ropeWorth_k114 a1 a2 z3)
set_option maxHeartbeats 4000000 in
set_option maxRecDepth 100000 in
theorem cm_ropeWorth (l : Launch) (G : mGh) (hG : mOk G) (S : mS) (a1 : Int32) (a2 : Int32) {r : Int32} (hr : fm_ropeWorth S a1 a2 = some r) : Met l yX3_ropeWorth (ws_ yX3_ropeWorth cX3_ropeWorth 7 (some .int)) ({ frames := 1, cells := 0, slots := 0, locals := 25 } : Room) (mPc G [.int a1, .int a2] S) (mQi G r S) 0 0 (zA G) := by
  refine m_met cX3_ropeWorth (by decide) rfl hG (Nat.le_of_ble_eq_true rfl) (fun p e s m args below meth c C hret hlk ls hX hl => ?_)
  have hx := C.1.1
  have hb := C.1.2.1
  have hown := C.1.2.2.2.1
  have hts := C.1.2.2.2.2
  have hS : va_S (zA G) s.heap s.heap [] := va_S.rf
  have hl : lv_has ls 7 [(0, .ref (zh G)), (1, .int a1), (2, .int a2)] := hl
  unfold fm_ropeWorth at hr
  refine lv_iconst (v := 0) hx hb dX3_ropeWorth_0 (by decide) ?_
  refine lv_istore_n (lv' := [(3, .int (0 : Int32)), (0, .ref (zh G)), (1, .int a1), (2, .int a2)]) hx hb dX3_ropeWorth_1 rfl hl (by decide) rfl (fun ls hl => ?_)
  refine lv_iconst (v := 0) hx hb dX3_ropeWorth_2 (by decide) ?_
  refine lv_istore (lv' := [(4, .int (0 : Int32)), (3, .int (0 : Int32)), (0, .ref (zh G)), (1, .int a1), (2, .int a2)]) hx hb dX3_ropeWorth_3 hl (by decide) rfl (fun ls hl => ?_)
  refine lv_iconst (v := 0) hx hb dX3_ropeWorth_5 (by decide) ?_
  refine lv_istore (lv' := [(5, .int (0 : Int32)), (4, .int (0 : Int32)), (3, .int (0 : Int32)), (0, .ref (zh G)), (1, .int a1), (2, .int a2)]) hx hb dX3_ropeWorth_6 hl (by decide) rfl (fun ls hl => ?_)
  obtain ⟨z3, e3, hr⟩ := ob hr
  refine m_join (I := fun (_ : Unit) H locs ls => mX G S H ∧ va_S (zA G) s.heap H locs ∧ lv_has ls 7 [(1, .int a1), (2, .int a2), (3, .int z3.1), (4, .int z3.2)]) 114 (fun _ => []) (fun _ H locs ls hi => ?_) (fun J1_114 => ?_)
  · obtain ⟨hX, hS, hl⟩ := hi
    unfold fm_ropeWorth_k114 at hr
    refine lv_iload_n hx hb dX3_ropeWorth_114 rfl (lv_at hl 0 rfl) ?_
    obtain ⟨x23, e23, hr⟩ := ob hr
    refine m_csi (As := [.int a1]) (rest := []) C hX hS hl.1 (cm_bits l a1 e23) (va_cwS 1 hts (lw_S q2286 q2287 q109 q2288) rfl rfl rfl (by decide +kernel) ⟨Nat.le_of_ble_eq_true rfl, Nat.le_of_ble_eq_true rfl⟩) rfl rfl (Nat.le_of_ble_eq_true rfl) dX3_ropeWorth_115 (fun H locs hX hS => ?_)
    refine lv_i2l (v := x23.toInt64) hx hb dX3_ropeWorth_118 rfl ?_
    refine lv_ldc2 hx hb hown (hts _ q2037) dX3_ropeWorth_119 ?_
    refine lv_ldc2 hx hb hown (hts _ q2036) dX3_ropeWorth_122 ?_
    refine m_csi (As := [.long x23.toInt64, .long (2 : Int64), .long (3 : Int64)]) (rest := []) C hX hS hl.1 (cm_in l x23.toInt64 (2 : Int64) (3 : Int64) rfl) (va_cwS 3 hts (lw_S q1974 q1975 q109 q1976) rfl rfl rfl (by decide +kernel) ⟨Nat.le_of_ble_eq_true rfl, Nat.le_of_ble_eq_true rfl⟩) rfl rfl (Nat.le_of_ble_eq_true rfl) dX3_ropeWorth_125 (fun H locs hX hS => ?_)
    refine lv_if_eq (tgt := 141) hx hb dX3_ropeWorth_128 (by decide) (fun c24 => ?_) (fun c24 => ?_)
    · replace hr := it c24 hr
      refine lv_ldcw hx hb hown (hts _ q2281) dX3_ropeWorth_141 ?_
      exact m_ri (C := C) hret hlk hX hS (Option.some.inj hr) dX3_ropeWorth_144
    · replace hr := ie c24 hr
      refine lv_iload hx hb dX3_ropeWorth_131 (lv_at hl 3 rfl) ?_
      refine lv_iload_n hx hb dX3_ropeWorth_133 rfl (lv_at hl 1 rfl) ?_
      refine lv_icmp_lt (tgt := 141) hx hb dX3_ropeWorth_134 (by decide) (fun c25 => ?_) (fun c25 => ?_)
      · replace hr := it c25 hr
        refine lv_ldcw hx hb hown (hts _ q2281) dX3_ropeWorth_141 ?_
        exact m_ri (C := C) hret hlk hX hS (Option.some.inj hr) dX3_ropeWorth_144
      · replace hr := ie c25 hr
        refine lv_iload_n hx hb dX3_ropeWorth_137 rfl (lv_at hl 2 rfl) ?_
        refine lv_goto (tgt := 144) hx hb dX3_ropeWorth_138 (by decide) ?_
        exact m_ri (C := C) hret hlk hX hS (Option.some.inj hr) dX3_ropeWorth_144
  refine m_loop e3 (fun (t1 : Int32 × Int32 × Int32) H locs ls => mX G S H ∧ va_S (zA G) s.heap H locs ∧ lv_has ls 7 [(0, .ref (zh G)), (1, .int a1), (2, .int a2), (3, .int t1.1), (4, .int t1.2.1), (5, .int t1.2.2)]) 8 ⟨hX, hS, lv_sub hl [3, 4, 5, 2, 1, 0] rfl⟩ (fun t1 y1 b1 w1 k1 H locs ls hi => ?_)
  obtain ⟨hX, hS, hl⟩ := hi
  unfold fm_ropeWorth_l8 at b1
  refine lv_iload hx hb dX3_ropeWorth_8 (lv_at hl 5 rfl) ?_
  refine lv_aload_n hx hb dX3_ropeWorth_10 rfl (lv_at hl 0 rfl) ?_
  refine m_gi (k := 49) C q1747 rfl hX dX3_ropeWorth_11 ?_
  refine lv_icmp_ge (tgt := 114) hx hb dX3_ropeWorth_14 (by decide) (fun c4 => ?_) (fun c4 => ?_)
  · replace b1 := it c4 b1
    replace b1 := lx b1 w1
    subst b1
    exact J1_114 () _ _ ls ⟨hX, hS, lv_sub hl [1, 2, 3, 4] rfl⟩
  · replace b1 := ie c4 b1
    refine lv_iconst (v := 0) hx hb dX3_ropeWorth_17 (by decide) ?_
    refine lv_istore (lv' := [(6, .int (0 : Int32)), (0, .ref (zh G)), (1, .int a1), (2, .int a2), (3, .int t1.1), (4, .int t1.2.1), (5, .int t1.2.2)]) hx hb dX3_ropeWorth_18 hl (by decide) rfl (fun ls hl => ?_)
    obtain ⟨z7, e7, b1⟩ := ob b1
    refine m_join (I := fun (_ : Unit) H locs ls => mX G S H ∧ va_S (zA G) s.heap H locs ∧ lv_has ls 7 [(0, .ref (zh G)), (1, .int a1), (2, .int a2), (3, .int z7), (4, .int t1.2.1), (5, .int t1.2.2)]) 82 (fun _ => []) (fun _ H locs ls hi => ?_) (fun J5_82 => ?_)
    · obtain ⟨hX, hS, hl⟩ := hi
      unfold fm_ropeWorth_k82 at b1
      refine lv_iload hx hb dX3_ropeWorth_82 (lv_at hl 4 rfl) ?_
      refine lv_iload_n hx hb dX3_ropeWorth_84 rfl (lv_at hl 1 rfl) ?_
      refine lv_iload hx hb dX3_ropeWorth_85 (lv_at hl 5 rfl) ?_
      refine lv_ishr hx hb dX3_ropeWorth_87 ?_
      refine lv_iconst (v := 1) hx hb dX3_ropeWorth_88 (by decide) ?_
      refine lv_iand hx hb dX3_ropeWorth_89 ?_
      refine lv_iconst (v := 1) hx hb dX3_ropeWorth_90 (by decide) ?_
      obtain ⟨x17, r17, b1⟩ := ob b1
      refine m_join (I := fun (t18 : Int32) H locs ls => x17 = t18 ∧ mX G S H ∧ va_S (zA G) s.heap H locs ∧ lv_has ls 7 [(0, .ref (zh G)), (1, .int a1), (2, .int a2), (3, .int z7), (5, .int t1.2.2)]) 105 (fun t18 => [.int t18, .int t1.2.1]) (fun t18 H locs ls hi => ?_) (fun J17 => ?_)
      · obtain ⟨rfl, hX, hS, hl⟩ := hi
        refine lv_iadd hx hb dX3_ropeWorth_105 ?_
        refine lv_istore (lv' := [(4, .int (t1.2.1 + x17)), (0, .ref (zh G)), (1, .int a1), (2, .int a2), (3, .int z7), (5, .int t1.2.2)]) hx hb dX3_ropeWorth_106 hl (by decide) rfl (fun ls hl => ?_)
        refine lv_iinc (v := (t1.2.2 + (1 : Int32))) (k := 5) (lv' := [(5, .int (t1.2.2 + (1 : Int32))), (4, .int (t1.2.1 + x17)), (0, .ref (zh G)), (1, .int a1), (2, .int a2), (3, .int z7)]) hx hb dX3_ropeWorth_108 hl rfl rfl (by decide) rfl (fun ls hl => ?_)
        refine lv_goto (tgt := 8) hx hb dX3_ropeWorth_111 (by decide) ?_
        obtain ⟨g21, hg21⟩ : ∃ g, g = (t1.2.1 + x17) := ⟨_, rfl⟩
        rw [← hg21] at hl b1
        obtain ⟨g22, hg22⟩ : ∃ g, g = (t1.2.2 + (1 : Int32)) := ⟨_, rfl⟩
        rw [← hg22] at hl b1
        exact k1 _ (Option.some.inj b1).symm _ _ ls ⟨hX, hS, lv_sub hl [2, 3, 4, 5, 1, 0] rfl⟩
      · refine lv_icmp_ne (tgt := 104) hx hb dX3_ropeWorth_91 (by decide) (fun c19 => ?_) (fun c19 => ?_)
        · replace r17 := ie c19 r17
          refine lv_iconst (v := 0) hx hb dX3_ropeWorth_104 (by decide) ?_
          exact J17 _ _ _ ls ⟨(Option.some.inj r17).symm, hX, hS, lv_sub hl [0, 1, 2, 3, 5] rfl⟩
        · replace r17 := it c19 r17
          refine lv_aload_n hx hb dX3_ropeWorth_94 rfl (lv_at hl 0 rfl) ?_
          refine m_ga (k := 50) (d := 0) C q1748 rfl (by decide) hX dX3_ropeWorth_95 ?_
          refine lv_iload hx hb dX3_ropeWorth_98 (lv_at hl 5 rfl) ?_
          obtain ⟨x20, e20, r17⟩ := ob r17
          refine m_ia (k := 50) C rfl hX e20 dX3_ropeWorth_100 ?_
          refine lv_goto (tgt := 105) hx hb dX3_ropeWorth_101 (by decide) ?_
          exact J17 _ _ _ ls ⟨(Option.some.inj r17).symm, hX, hS, lv_sub hl [0, 1, 2, 3, 5] rfl⟩
    refine m_loop e7 (fun (t5 : Int32 × Int32) H locs ls => mX G S H ∧ va_S (zA G) s.heap H locs ∧ lv_has ls 7 [(0, .ref (zh G)), (1, .int a1), (2, .int a2), (3, .int t5.1), (4, .int t1.2.1), (5, .int t1.2.2), (6, .int t5.2)]) 20 ⟨hX, hS, lv_sub hl [1, 2, 3, 4, 5, 6, 0] rfl⟩ (fun t5 y5 b5 w5 k5 H locs ls hi => ?_)
    obtain ⟨hX, hS, hl⟩ := hi
    unfold fm_ropeWorth_l20 at b5
    refine lv_iload hx hb dX3_ropeWorth_20 (lv_at hl 6 rfl) ?_
    refine lv_aload_n hx hb dX3_ropeWorth_22 rfl (lv_at hl 0 rfl) ?_
    refine m_gi (k := 49) C q1747 rfl hX dX3_ropeWorth_23 ?_
    refine lv_icmp_ge (tgt := 82) hx hb dX3_ropeWorth_26 (by decide) (fun c8 => ?_) (fun c8 => ?_)
    · replace b5 := it c8 b5
      replace b5 := lx b5 w5
      subst b5
      exact J5_82 () _ _ ls ⟨hX, hS, lv_sub hl [0, 1, 2, 3, 4, 5] rfl⟩
    · replace b5 := ie c8 b5
      refine lv_iload_n hx hb dX3_ropeWorth_29 rfl (lv_at hl 3 rfl) ?_
      refine lv_iload_n hx hb dX3_ropeWorth_30 rfl (lv_at hl 1 rfl) ?_
      refine lv_iload hx hb dX3_ropeWorth_31 (lv_at hl 5 rfl) ?_
      refine lv_ishr hx hb dX3_ropeWorth_33 ?_
      refine lv_iconst (v := 1) hx hb dX3_ropeWorth_34 (by decide) ?_
      refine lv_iand hx hb dX3_ropeWorth_35 ?_
      refine lv_iconst (v := 1) hx hb dX3_ropeWorth_36 (by decide) ?_
      obtain ⟨x9, r9, b5⟩ := ob b5
      refine m_join (I := fun (t10 : Int32) H locs ls => x9 = t10 ∧ mX G S H ∧ va_S (zA G) s.heap H locs ∧ lv_has ls 7 [(0, .ref (zh G)), (1, .int a1), (2, .int a2), (4, .int t1.2.1), (5, .int t1.2.2), (6, .int t5.2)]) 74 (fun t10 => [.int t10, .int t5.1]) (fun t10 H locs ls hi => ?_) (fun J9 => ?_)
      · obtain ⟨rfl, hX, hS, hl⟩ := hi
        refine lv_iadd hx hb dX3_ropeWorth_74 ?_
        refine lv_istore_n (lv' := [(3, .int (t5.1 + x9)), (0, .ref (zh G)), (1, .int a1), (2, .int a2), (4, .int t1.2.1), (5, .int t1.2.2), (6, .int t5.2)]) hx hb dX3_ropeWorth_75 rfl hl (by decide) rfl (fun ls hl => ?_)
        refine lv_iinc (v := (t5.2 + (1 : Int32))) (k := 6) (lv' := [(6, .int (t5.2 + (1 : Int32))), (3, .int (t5.1 + x9)), (0, .ref (zh G)), (1, .int a1), (2, .int a2), (4, .int t1.2.1), (5, .int t1.2.2)]) hx hb dX3_ropeWorth_76 hl rfl rfl (by decide) rfl (fun ls hl => ?_)
        refine lv_goto (tgt := 20) hx hb dX3_ropeWorth_79 (by decide) ?_
        obtain ⟨g15, hg15⟩ : ∃ g, g = (t5.1 + x9) := ⟨_, rfl⟩
        rw [← hg15] at hl b5
        obtain ⟨g16, hg16⟩ : ∃ g, g = (t5.2 + (1 : Int32)) := ⟨_, rfl⟩
        rw [← hg16] at hl b5
        exact k5 _ (Option.some.inj b5).symm _ _ ls ⟨hX, hS, lv_sub hl [2, 3, 4, 1, 5, 6, 0] rfl⟩
      · refine lv_icmp_ne (tgt := 73) hx hb dX3_ropeWorth_37 (by decide) (fun c11 => ?_) (fun c11 => ?_)
        · replace r9 := ie c11 r9
          refine lv_iconst (v := 0) hx hb dX3_ropeWorth_73 (by decide) ?_
          exact J9 _ _ _ ls ⟨(Option.some.inj r9).symm, hX, hS, lv_sub hl [0, 1, 2, 4, 5, 6] rfl⟩
        · replace r9 := it c11 r9
          refine lv_iload_n hx hb dX3_ropeWorth_40 rfl (lv_at hl 1 rfl) ?_
          refine lv_iload hx hb dX3_ropeWorth_41 (lv_at hl 6 rfl) ?_
          refine lv_ishr hx hb dX3_ropeWorth_43 ?_
          refine lv_iconst (v := 1) hx hb dX3_ropeWorth_44 (by decide) ?_
          refine lv_iand hx hb dX3_ropeWorth_45 ?_
          refine lv_iconst (v := 1) hx hb dX3_ropeWorth_46 (by decide) ?_
          refine lv_icmp_ne (tgt := 73) hx hb dX3_ropeWorth_47 (by decide) (fun c12 => ?_) (fun c12 => ?_)
          · replace r9 := ie c12 r9
            refine lv_iconst (v := 0) hx hb dX3_ropeWorth_73 (by decide) ?_
            exact J9 _ _ _ ls ⟨(Option.some.inj r9).symm, hX, hS, lv_sub hl [0, 1, 2, 4, 5, 6] rfl⟩
          · replace r9 := it c12 r9
            refine lv_iload hx hb dX3_ropeWorth_50 (lv_at hl 5 rfl) ?_
            refine lv_iload hx hb dX3_ropeWorth_52 (lv_at hl 6 rfl) ?_
            refine lv_icmp_eq (tgt := 73) hx hb dX3_ropeWorth_54 (by decide) (fun c13 => ?_) (fun c13 => ?_)
            · replace r9 := it c13 r9
              refine lv_iconst (v := 0) hx hb dX3_ropeWorth_73 (by decide) ?_
              exact J9 _ _ _ ls ⟨(Option.some.inj r9).symm, hX, hS, lv_sub hl [0, 1, 2, 4, 5, 6] rfl⟩
            · replace r9 := ie c13 r9
              refine lv_aload_n hx hb dX3_ropeWorth_57 rfl (lv_at hl 0 rfl) ?_
              refine m_ga (k := 51) (d := 0) C q1749 rfl (by decide) hX dX3_ropeWorth_58 ?_
              refine lv_bipush (v := 9) hx hb dX3_ropeWorth_61 (by decide) ?_
              refine lv_iload hx hb dX3_ropeWorth_63 (lv_at hl 5 rfl) ?_
              refine lv_imul hx hb dX3_ropeWorth_65 ?_
              refine lv_iload hx hb dX3_ropeWorth_66 (lv_at hl 6 rfl) ?_
              refine lv_iadd hx hb dX3_ropeWorth_68 ?_
              obtain ⟨x14, e14, r9⟩ := ob r9
              refine m_ia (k := 51) C rfl hX e14 dX3_ropeWorth_69 ?_
              refine lv_goto (tgt := 74) hx hb dX3_ropeWorth_70 (by decide) ?_
              exact J9 _ _ _ ls ⟨(Option.some.inj r9).symm, hX, hS, lv_sub hl [0, 1, 2, 4, 5, 6] rfl⟩

def fm_findRoping_l36 (a1 : Int32) (t2 : mS × Int32) (t7 : mS × Int32) : Option ((mS × Int32) ⊕ (mS)) :=
  (if t2.2 < t7.2 then
  some (.inr t7.1)
  else
  (((if (t7.2 &&& (t2.2 ^^^ (-1 : Int32))) = 0 then
  (if (t7.2 &&& (t2.2 &&& (-t2.2))) = 0 then
  some t7.1
  else
  (fm_ropeWorth t7.1 t7.2 a1).bind fun x15 =>
  (aI t7.1 52 (t2.2 - t7.2)).bind fun x16 =>
  (if x15 = (-100000 : Int32) then
  some t7.1
  else
  (if x16 = (-100000 : Int32) then
  some t7.1
  else
  (aI t7.1 52 t2.2).bind fun x19 =>
  (if (x15 + x16) ≤ x19 then
  some t7.1
  else
  (tI t7.1 52 t2.2 (x15 + x16)).bind fun x21 =>
  (tI x21 53 t2.2 t7.2).bind fun x22 =>
  some x22))))
  else
  some t7.1) : Option (mS))).bind (fun x11 =>
  some (.inl (x11, (t7.2 + (1 : Int32))))))
def fm_findRoping_l9 (a1 : Int32) (t2 : mS × Int32) : Option ((mS × Int32) ⊕ (mS)) :=
  (if ((1 : Int32) <<< ((gI t2.1 49) &&& 31)) ≤ t2.2 then
  some (.inr t2.1)
  else
  (tI t2.1 52 t2.2 (-100000 : Int32)).bind fun x6 =>
  (loopO (fm_findRoping_l36 a1 t2) 1000000 (x6, (1 : Int32))).bind (fun z9 =>
  some (.inl (z9, (t2.2 + (1 : Int32))))))
def fm_findRoping (S : mS) (a1 : Int32) : Option mS :=
  (tI S 52 (0 : Int32) (0 : Int32)).bind fun x1 =>
  (loopO (fm_findRoping_l9 a1) 1000000 (x1, (1 : Int32))).bind (fun z4 =>
  some z4)
set_option maxHeartbeats 4000000 in
set_option maxRecDepth 100000 in
theorem cm_findRoping (l : Launch) (G : mGh) (hG : mOk G) (S : mS) (a1 : Int32) {S' : mS} (hr : fm_findRoping S a1 = some S') : Met l yX3_findRoping (ws_ yX3_findRoping cX3_findRoping 7 none) ({ frames := 2, cells := 0, slots := 0, locals := 51 } : Room) (mPc G [.int a1] S) (mQv G S') 0 0 (zA G) := by
  refine m_met cX3_findRoping (by decide) rfl hG (Nat.le_of_ble_eq_true rfl) (fun p e s m args below meth c C hret hlk ls hX hl => ?_)
  have hx := C.1.1
  have hb := C.1.2.1
  have hown := C.1.2.2.2.1
  have hts := C.1.2.2.2.2
  have hS : va_S (zA G) s.heap s.heap [] := va_S.rf
  have hl : lv_has ls 7 [(0, .ref (zh G)), (1, .int a1)] := hl
  unfold fm_findRoping at hr
  refine lv_aload_n hx hb dX3_findRoping_0 rfl (lv_at hl 0 rfl) ?_
  refine m_ga (k := 52) (d := 0) C q1750 rfl (by decide) hX dX3_findRoping_1 ?_
  refine lv_iconst (v := 0) hx hb dX3_findRoping_4 (by decide) ?_
  refine lv_iconst (v := 0) hx hb dX3_findRoping_5 (by decide) ?_
  obtain ⟨x1, e1, hr⟩ := ob hr
  refine m_is (k := 52) C rfl hX hS e1 dX3_findRoping_6 (fun H locs hX hS => ?_)
  refine lv_iconst (v := 1) hx hb dX3_findRoping_7 (by decide) ?_
  refine lv_istore_n (lv' := [(2, .int (1 : Int32)), (0, .ref (zh G)), (1, .int a1)]) hx hb dX3_findRoping_8 rfl hl (by decide) rfl (fun ls hl => ?_)
  obtain ⟨z4, e4, hr⟩ := ob hr
  refine m_join (I := fun (_ : Unit) H locs ls => mX G z4 H ∧ va_S (zA G) s.heap H locs ∧ lv_has ls 7 []) 139 (fun _ => []) (fun _ H locs ls hi => ?_) (fun J2_139 => ?_)
  · obtain ⟨hX, hS, hl⟩ := hi
    exact m_rvw (C := C) hret hlk hX hS (Option.some.inj hr) dX3_findRoping_139
  refine m_loop e4 (fun (t2 : mS × Int32) H locs ls => mX G t2.1 H ∧ va_S (zA G) s.heap H locs ∧ lv_has ls 7 [(0, .ref (zh G)), (1, .int a1), (2, .int t2.2)]) 9 ⟨hX, hS, lv_sub hl [1, 2, 0] rfl⟩ (fun t2 y2 b2 w2 k2 H locs ls hi => ?_)
  obtain ⟨hX, hS, hl⟩ := hi
  unfold fm_findRoping_l9 at b2
  refine lv_iload_n hx hb dX3_findRoping_9 rfl (lv_at hl 2 rfl) ?_
  refine lv_iconst (v := 1) hx hb dX3_findRoping_10 (by decide) ?_
  refine lv_aload_n hx hb dX3_findRoping_11 rfl (lv_at hl 0 rfl) ?_
  refine m_gi (k := 49) C q1747 rfl hX dX3_findRoping_12 ?_
  refine lv_ishl hx hb dX3_findRoping_15 ?_
  refine lv_icmp_ge (tgt := 139) hx hb dX3_findRoping_16 (by decide) (fun c5 => ?_) (fun c5 => ?_)
  · replace b2 := it c5 b2
    replace b2 := lx b2 w2
    subst b2
    exact J2_139 () _ _ ls ⟨hX, hS, lv_sub hl [] rfl⟩
  · replace b2 := ie c5 b2
    refine lv_aload_n hx hb dX3_findRoping_19 rfl (lv_at hl 0 rfl) ?_
    refine m_ga (k := 52) (d := 0) C q1750 rfl (by decide) hX dX3_findRoping_20 ?_
    refine lv_iload_n hx hb dX3_findRoping_23 rfl (lv_at hl 2 rfl) ?_
    refine lv_ldcw hx hb hown (hts _ q2281) dX3_findRoping_24 ?_
    obtain ⟨x6, e6, b2⟩ := ob b2
    refine m_is (k := 52) C rfl hX hS e6 dX3_findRoping_27 (fun H locs hX hS => ?_)
    refine lv_iload_n hx hb dX3_findRoping_28 rfl (lv_at hl 2 rfl) ?_
    refine lv_iload_n hx hb dX3_findRoping_29 rfl (lv_at hl 2 rfl) ?_
    refine lv_ineg hx hb dX3_findRoping_30 ?_
    refine lv_iand hx hb dX3_findRoping_31 ?_
    refine lv_istore_n (lv' := [(3, .int (t2.2 &&& (-t2.2))), (0, .ref (zh G)), (1, .int a1), (2, .int t2.2)]) hx hb dX3_findRoping_32 rfl hl (by decide) rfl (fun ls hl => ?_)
    refine lv_iconst (v := 1) hx hb dX3_findRoping_33 (by decide) ?_
    refine lv_istore (lv' := [(4, .int (1 : Int32)), (3, .int (t2.2 &&& (-t2.2))), (0, .ref (zh G)), (1, .int a1), (2, .int t2.2)]) hx hb dX3_findRoping_34 hl (by decide) rfl (fun ls hl => ?_)
    obtain ⟨z9, e9, b2⟩ := ob b2
    refine m_join (I := fun (_ : Unit) H locs ls => mX G z9 H ∧ va_S (zA G) s.heap H locs ∧ lv_has ls 7 [(0, .ref (zh G)), (1, .int a1), (2, .int t2.2)]) 133 (fun _ => []) (fun _ H locs ls hi => ?_) (fun J7_133 => ?_)
    · obtain ⟨hX, hS, hl⟩ := hi
      refine lv_iinc (v := (t2.2 + (1 : Int32))) (k := 2) (lv' := [(2, .int (t2.2 + (1 : Int32))), (0, .ref (zh G)), (1, .int a1)]) hx hb dX3_findRoping_133 hl rfl rfl (by decide) rfl (fun ls hl => ?_)
      refine lv_goto (tgt := 9) hx hb dX3_findRoping_136 (by decide) ?_
      obtain ⟨g24, hg24⟩ : ∃ g, g = (t2.2 + (1 : Int32)) := ⟨_, rfl⟩
      rw [← hg24] at hl b2
      exact k2 _ (Option.some.inj b2).symm _ _ ls ⟨hX, hS, lv_sub hl [1, 2, 0] rfl⟩
    refine m_loop e9 (fun (t7 : mS × Int32) H locs ls => mX G t7.1 H ∧ va_S (zA G) s.heap H locs ∧ lv_has ls 7 [(0, .ref (zh G)), (1, .int a1), (2, .int t2.2), (3, .int (t2.2 &&& (-t2.2))), (4, .int t7.2)]) 36 ⟨hX, hS, lv_sub hl [2, 3, 4, 1, 0] rfl⟩ (fun t7 y7 b7 w7 k7 H locs ls hi => ?_)
    obtain ⟨hX, hS, hl⟩ := hi
    unfold fm_findRoping_l36 at b7
    refine lv_iload hx hb dX3_findRoping_36 (lv_at hl 4 rfl) ?_
    refine lv_iload_n hx hb dX3_findRoping_38 rfl (lv_at hl 2 rfl) ?_
    refine lv_icmp_gt (tgt := 133) hx hb dX3_findRoping_39 (by decide) (fun c10 => ?_) (fun c10 => ?_)
    · replace b7 := it c10 b7
      replace b7 := lx b7 w7
      subst b7
      exact J7_133 () _ _ ls ⟨hX, hS, lv_sub hl [0, 1, 2] rfl⟩
    · replace b7 := ie c10 b7
      refine lv_iload hx hb dX3_findRoping_42 (lv_at hl 4 rfl) ?_
      refine lv_iload_n hx hb dX3_findRoping_44 rfl (lv_at hl 2 rfl) ?_
      refine lv_iconst (v := -1) hx hb dX3_findRoping_45 (by decide) ?_
      refine lv_ixor hx hb dX3_findRoping_46 ?_
      refine lv_iand hx hb dX3_findRoping_47 ?_
      obtain ⟨x11, r11, b7⟩ := ob b7
      refine m_join (I := fun (t12 : mS) H locs ls => x11 = t12 ∧ mX G t12 H ∧ va_S (zA G) s.heap H locs ∧ lv_has ls 7 [(0, .ref (zh G)), (1, .int a1), (2, .int t2.2), (3, .int (t2.2 &&& (-t2.2))), (4, .int t7.2)]) 127 (fun t12 => []) (fun t12 H locs ls hi => ?_) (fun J11 => ?_)
      · obtain ⟨rfl, hX, hS, hl⟩ := hi
        refine lv_iinc (v := (t7.2 + (1 : Int32))) (k := 4) (lv' := [(4, .int (t7.2 + (1 : Int32))), (0, .ref (zh G)), (1, .int a1), (2, .int t2.2), (3, .int (t2.2 &&& (-t2.2)))]) hx hb dX3_findRoping_127 hl rfl rfl (by decide) rfl (fun ls hl => ?_)
        refine lv_goto (tgt := 36) hx hb dX3_findRoping_130 (by decide) ?_
        obtain ⟨g23, hg23⟩ : ∃ g, g = (t7.2 + (1 : Int32)) := ⟨_, rfl⟩
        rw [← hg23] at hl b7
        exact k7 _ (Option.some.inj b7).symm _ _ ls ⟨hX, hS, lv_sub hl [1, 2, 3, 4, 0] rfl⟩
      · refine lv_if_ne (tgt := 127) hx hb dX3_findRoping_48 (by decide) (fun c13 => ?_) (fun c13 => ?_)
        · replace r11 := ie c13 r11
          exact J11 _ _ _ ls ⟨(Option.some.inj r11).symm, hX, hS, hl⟩
        · replace r11 := it c13 r11
          refine lv_iload hx hb dX3_findRoping_51 (lv_at hl 4 rfl) ?_
          refine lv_iload_n hx hb dX3_findRoping_53 rfl (lv_at hl 3 rfl) ?_
          refine lv_iand hx hb dX3_findRoping_54 ?_
          refine lv_if_eq (tgt := 127) hx hb dX3_findRoping_55 (by decide) (fun c14 => ?_) (fun c14 => ?_)
          · replace r11 := it c14 r11
            exact J11 _ _ _ ls ⟨(Option.some.inj r11).symm, hX, hS, hl⟩
          · replace r11 := ie c14 r11
            refine lv_aload_n hx hb dX3_findRoping_58 rfl (lv_at hl 0 rfl) ?_
            refine lv_iload hx hb dX3_findRoping_59 (lv_at hl 4 rfl) ?_
            refine lv_iload_n hx hb dX3_findRoping_61 rfl (lv_at hl 1 rfl) ?_
            obtain ⟨x15, e15, r11⟩ := ob r11
            refine m_cvi (As := [.int t7.2, .int a1]) (rest := []) C hX hS hl.1 (cm_ropeWorth l G hG t7.1 t7.2 a1 e15) (cwV 2 hts (lw_V q2282 q2284 qs88 q109 q2285) rfl rfl rfl (by decide +kernel) ⟨Nat.le_of_ble_eq_true rfl, Nat.le_of_ble_eq_true rfl⟩) rfl rfl (Nat.le_of_ble_eq_true rfl) dX3_findRoping_62 (fun H locs hX hS => ?_)
            refine lv_istore (lv' := [(5, .int x15), (0, .ref (zh G)), (1, .int a1), (2, .int t2.2), (3, .int (t2.2 &&& (-t2.2))), (4, .int t7.2)]) hx hb dX3_findRoping_65 hl (by decide) rfl (fun ls hl => ?_)
            refine lv_aload_n hx hb dX3_findRoping_67 rfl (lv_at hl 1 rfl) ?_
            refine m_ga (k := 52) (d := 0) C q1750 rfl (by decide) hX dX3_findRoping_68 ?_
            refine lv_iload_n hx hb dX3_findRoping_71 rfl (lv_at hl 3 rfl) ?_
            refine lv_iload hx hb dX3_findRoping_72 (lv_at hl 5 rfl) ?_
            refine lv_isub hx hb dX3_findRoping_74 ?_
            obtain ⟨x16, e16, r11⟩ := ob r11
            refine m_ia (k := 52) C rfl hX e16 dX3_findRoping_75 ?_
            refine lv_istore (lv' := [(6, .int x16), (5, .int x15), (0, .ref (zh G)), (1, .int a1), (2, .int t2.2), (3, .int (t2.2 &&& (-t2.2))), (4, .int t7.2)]) hx hb dX3_findRoping_76 hl (by decide) rfl (fun ls hl => ?_)
            refine lv_iload hx hb dX3_findRoping_78 (lv_at hl 1 rfl) ?_
            refine lv_ldcw hx hb hown (hts _ q2281) dX3_findRoping_80 ?_
            refine lv_icmp_eq (tgt := 127) hx hb dX3_findRoping_83 (by decide) (fun c17 => ?_) (fun c17 => ?_)
            · replace r11 := it c17 r11
              exact J11 _ _ _ ls ⟨(Option.some.inj r11).symm, hX, hS, lv_sub hl [2, 3, 4, 5, 6] rfl⟩
            · replace r11 := ie c17 r11
              refine lv_iload hx hb dX3_findRoping_86 (lv_at hl 0 rfl) ?_
              refine lv_ldcw hx hb hown (hts _ q2281) dX3_findRoping_88 ?_
              refine lv_icmp_eq (tgt := 127) hx hb dX3_findRoping_91 (by decide) (fun c18 => ?_) (fun c18 => ?_)
              · replace r11 := it c18 r11
                exact J11 _ _ _ ls ⟨(Option.some.inj r11).symm, hX, hS, lv_sub hl [2, 3, 4, 5, 6] rfl⟩
              · replace r11 := ie c18 r11
                refine lv_iload hx hb dX3_findRoping_94 (lv_at hl 1 rfl) ?_
                refine lv_iload hx hb dX3_findRoping_96 (lv_at hl 0 rfl) ?_
                refine lv_iadd hx hb dX3_findRoping_98 ?_
                refine lv_aload_n hx hb dX3_findRoping_99 rfl (lv_at hl 2 rfl) ?_
                refine m_ga (k := 52) (d := 0) C q1750 rfl (by decide) hX dX3_findRoping_100 ?_
                refine lv_iload_n hx hb dX3_findRoping_103 rfl (lv_at hl 4 rfl) ?_
                obtain ⟨x19, e19, r11⟩ := ob r11
                refine m_ia (k := 52) C rfl hX e19 dX3_findRoping_104 ?_
                refine lv_icmp_le (tgt := 127) hx hb dX3_findRoping_105 (by decide) (fun c20 => ?_) (fun c20 => ?_)
                · replace r11 := it c20 r11
                  exact J11 _ _ _ ls ⟨(Option.some.inj r11).symm, hX, hS, lv_sub hl [2, 3, 4, 5, 6] rfl⟩
                · replace r11 := ie c20 r11
                  refine lv_aload_n hx hb dX3_findRoping_108 rfl (lv_at hl 2 rfl) ?_
                  refine m_ga (k := 52) (d := 0) C q1750 rfl (by decide) hX dX3_findRoping_109 ?_
                  refine lv_iload_n hx hb dX3_findRoping_112 rfl (lv_at hl 4 rfl) ?_
                  refine lv_iload hx hb dX3_findRoping_113 (lv_at hl 1 rfl) ?_
                  refine lv_iload hx hb dX3_findRoping_115 (lv_at hl 0 rfl) ?_
                  refine lv_iadd hx hb dX3_findRoping_117 ?_
                  obtain ⟨x21, e21, r11⟩ := ob r11
                  refine m_is (k := 52) C rfl hX hS e21 dX3_findRoping_118 (fun H locs hX hS => ?_)
                  refine lv_aload_n hx hb dX3_findRoping_119 rfl (lv_at hl 2 rfl) ?_
                  refine m_ga (k := 53) (d := 0) C q1751 rfl (by decide) hX dX3_findRoping_120 ?_
                  refine lv_iload_n hx hb dX3_findRoping_123 rfl (lv_at hl 4 rfl) ?_
                  refine lv_iload hx hb dX3_findRoping_124 (lv_at hl 6 rfl) ?_
                  obtain ⟨x22, e22, r11⟩ := ob r11
                  refine m_is (k := 53) C rfl hX hS e22 dX3_findRoping_126 (fun H locs hX hS => ?_)
                  exact J11 _ _ _ ls ⟨(Option.some.inj r11).symm, hX, hS, lv_sub hl [2, 3, 4, 5, 6] rfl⟩

def fm_roping_k145 (a2 : Int32) (x6 : mS) (z11 : Int32 × Int32) : Option ((mS × Int32)) :=
  (if a2 = 0 then
  (aI x6 52 (((1 : Int32) <<< ((gI x6 49) &&& 31)) - (1 : Int32))).bind fun x24 =>
  some (x6, x24)
  else
  (if a2 = (1 : Int32) then
  some (x6, z11.1)
  else
  some (x6, z11.2)))
def fm_roping_l84 (a2 : Int32) (x6 : mS) (t9 : Int32 × Int32 × Int32) : Option ((Int32 × Int32 × Int32) ⊕ (Int32 × Int32)) :=
  (if t9.2.2 = 0 then
  some (.inr (t9.1, t9.2.1))
  else
  (((if a2 < (10 : Int32) then
  some t9.2.1
  else
  (aI x6 53 t9.2.2).bind fun x16 =>
  (if ((x16 >>> ((a2 - (10 : Int32)) &&& 31)) &&& (1 : Int32)) = (1 : Int32) then
  (aI x6 53 t9.2.2).bind fun x18 =>
  some x18
  else
  some t9.2.1)) : Option (Int32))).bind (fun x13 =>
  (aI x6 53 t9.2.2).bind fun x19 =>
  some (.inl ((t9.1 + (1 : Int32)), x13, (t9.2.2 - x19)))))
def fm_roping_k45 (S : mS) (a1 : Int32) (a2 : Int32) (t3 : Unit) : Option ((mS × Int32)) :=
  (fm_findRoping S a1).bind fun x6 =>
  (aI x6 52 (((1 : Int32) <<< ((gI x6 49) &&& 31)) - (1 : Int32))).bind fun x7 =>
  (if x7 = (-100000 : Int32) then
  some (x6, (-1004 : Int32))
  else
  (loopO (fm_roping_l84 a2 x6) 1000000 ((0 : Int32), (0 : Int32), (((1 : Int32) <<< ((gI x6 49) &&& 31)) - (1 : Int32)))).bind (fun z11 => fm_roping_k145 a2 x6 z11))
def fm_roping (S : mS) (a1 : Int32) (a2 : Int32) : Option (mS × Int32) :=
  (if (fm_in a1.toInt64 (0 : Int64) (30 : Int64)) = 0 then
  some (S, (-1000 : Int32))
  else
  (((if (fm_in a2.toInt64 (0 : Int64) (1 : Int64)) = 0 then
  (if (fm_in a2.toInt64 (10 : Int64) (((9 : Int32) + (gI S 49)).toInt64)) = 0 then
  some (.inr (some (S, (-1000 : Int32))))
  else
  some (.inl ()))
  else
  some (.inl ())) : Option ((Unit) ⊕ Option ((mS × Int32))))).bind (sumK (fun t3 => fm_roping_k45 S a1 a2 t3) (fun z => z)))
set_option maxHeartbeats 4000000 in
set_option maxRecDepth 100000 in
theorem cm_roping (l : Launch) (G : mGh) (hG : mOk G) (S : mS) (a1 : Int32) (a2 : Int32) {S' : mS} {r : Int32} (hr : fm_roping S a1 a2 = some (S', r)) : Met l yX3_roping (ws_ yX3_roping cX3_roping 7 (some .int)) ({ frames := 3, cells := 0, slots := 0, locals := 77 } : Room) (mPc G [.int a1, .int a2] S) (mQi G r S') 0 0 (zA G) := by
  refine m_met cX3_roping (by decide) rfl hG (Nat.le_of_ble_eq_true rfl) (fun p e s m args below meth c C hret hlk ls hX hl => ?_)
  have hx := C.1.1
  have hb := C.1.2.1
  have hown := C.1.2.2.2.1
  have hts := C.1.2.2.2.2
  have hS : va_S (zA G) s.heap s.heap [] := va_S.rf
  have hl : lv_has ls 7 [(0, .ref (zh G)), (1, .int a1), (2, .int a2)] := hl
  unfold fm_roping at hr
  refine lv_iload_n hx hb dX3_roping_0 rfl (lv_at hl 1 rfl) ?_
  refine lv_i2l (v := a1.toInt64) hx hb dX3_roping_1 rfl ?_
  refine lv_lconst (v := 0) hx hb dX3_roping_2 (by decide) ?_
  refine lv_ldc2 hx hb hown (hts _ q2276) dX3_roping_3 ?_
  refine m_csi (As := [.long a1.toInt64, .long (0 : Int64), .long (30 : Int64)]) (rest := []) C hX hS hl.1 (cm_in l a1.toInt64 (0 : Int64) (30 : Int64) rfl) (va_cwS 3 hts (lw_S q1974 q1975 q109 q1976) rfl rfl rfl (by decide +kernel) ⟨Nat.le_of_ble_eq_true rfl, Nat.le_of_ble_eq_true rfl⟩) rfl rfl (Nat.le_of_ble_eq_true rfl) dX3_roping_6 (fun H locs hX hS => ?_)
  refine lv_if_eq (tgt := 41) hx hb dX3_roping_9 (by decide) (fun c1 => ?_) (fun c1 => ?_)
  · replace hr := it c1 hr
    refine lv_sipush (v := -1000) hx hb dX3_roping_41 (by decide) ?_
    exact m_riw (C := C) hret hlk hX hS (Option.some.inj hr) dX3_roping_44
  · replace hr := ie c1 hr
    refine lv_iload_n hx hb dX3_roping_12 rfl (lv_at hl 2 rfl) ?_
    refine lv_i2l (v := a2.toInt64) hx hb dX3_roping_13 rfl ?_
    refine lv_lconst (v := 0) hx hb dX3_roping_14 (by decide) ?_
    refine lv_lconst (v := 1) hx hb dX3_roping_15 (by decide) ?_
    refine m_csi (As := [.long a2.toInt64, .long (0 : Int64), .long (1 : Int64)]) (rest := []) C hX hS hl.1 (cm_in l a2.toInt64 (0 : Int64) (1 : Int64) rfl) (va_cwS 3 hts (lw_S q1974 q1975 q109 q1976) rfl rfl rfl (by decide +kernel) ⟨Nat.le_of_ble_eq_true rfl, Nat.le_of_ble_eq_true rfl⟩) rfl rfl (Nat.le_of_ble_eq_true rfl) dX3_roping_16 (fun H locs hX hS => ?_)
    obtain ⟨x2, r2, hr⟩ := ob hr
    refine m_join (I := fun (t3 : Unit) H locs ls => x2 = .inl t3 ∧ mX G S H ∧ va_S (zA G) s.heap H locs ∧ lv_has ls 7 [(0, .ref (zh G)), (1, .int a1), (2, .int a2)]) 45 (fun t3 => []) (fun t3 H locs ls hi => ?_) (fun J2 => ?_)
    · obtain ⟨rfl, hX, hS, hl⟩ := hi
      replace hr := sk_l hr
      unfold fm_roping_k45 at hr
      refine lv_aload_n hx hb dX3_roping_45 rfl (lv_at hl 0 rfl) ?_
      refine lv_iload_n hx hb dX3_roping_46 rfl (lv_at hl 1 rfl) ?_
      obtain ⟨x6, e6, hr⟩ := ob hr
      refine m_cvv (As := [.int a1]) (rest := []) C hX hS hl.1 (cm_findRoping l G hG S a1 e6) (cwV 1 hts (lw_V q2277 q2279 qs87 q109 q2280) rfl rfl rfl (by decide +kernel) ⟨Nat.le_of_ble_eq_true rfl, Nat.le_of_ble_eq_true rfl⟩) rfl rfl (Nat.le_of_ble_eq_true rfl) dX3_roping_47 (fun H locs hX hS => ?_)
      refine lv_iconst (v := 1) hx hb dX3_roping_50 (by decide) ?_
      refine lv_aload_n hx hb dX3_roping_51 rfl (lv_at hl 0 rfl) ?_
      refine m_gi (k := 49) C q1747 rfl hX dX3_roping_52 ?_
      refine lv_ishl hx hb dX3_roping_55 ?_
      refine lv_iconst (v := 1) hx hb dX3_roping_56 (by decide) ?_
      refine lv_isub hx hb dX3_roping_57 ?_
      refine lv_istore_n (lv' := [(3, .int (((1 : Int32) <<< ((gI x6 49) &&& 31)) - (1 : Int32))), (0, .ref (zh G)), (1, .int a1), (2, .int a2)]) hx hb dX3_roping_58 rfl hl (by decide) rfl (fun ls hl => ?_)
      refine lv_aload_n hx hb dX3_roping_59 rfl (lv_at hl 1 rfl) ?_
      refine m_ga (k := 52) (d := 0) C q1750 rfl (by decide) hX dX3_roping_60 ?_
      refine lv_iload_n hx hb dX3_roping_63 rfl (lv_at hl 0 rfl) ?_
      obtain ⟨x7, e7, hr⟩ := ob hr
      refine m_ia (k := 52) C rfl hX e7 dX3_roping_64 ?_
      refine lv_ldcw hx hb hown (hts _ q2281) dX3_roping_65 ?_
      refine lv_icmp_ne (tgt := 75) hx hb dX3_roping_68 (by decide) (fun c8 => ?_) (fun c8 => ?_)
      · replace hr := ie c8 hr
        refine lv_iconst (v := 0) hx hb dX3_roping_75 (by decide) ?_
        refine lv_istore (lv' := [(4, .int (0 : Int32)), (3, .int (((1 : Int32) <<< ((gI x6 49) &&& 31)) - (1 : Int32))), (0, .ref (zh G)), (1, .int a1), (2, .int a2)]) hx hb dX3_roping_76 hl (by decide) rfl (fun ls hl => ?_)
        refine lv_iconst (v := 0) hx hb dX3_roping_78 (by decide) ?_
        refine lv_istore (lv' := [(5, .int (0 : Int32)), (4, .int (0 : Int32)), (3, .int (((1 : Int32) <<< ((gI x6 49) &&& 31)) - (1 : Int32))), (0, .ref (zh G)), (1, .int a1), (2, .int a2)]) hx hb dX3_roping_79 hl (by decide) rfl (fun ls hl => ?_)
        refine lv_iload_n hx hb dX3_roping_81 rfl (lv_at hl 2 rfl) ?_
        refine lv_istore (lv' := [(6, .int (((1 : Int32) <<< ((gI x6 49) &&& 31)) - (1 : Int32))), (5, .int (0 : Int32)), (4, .int (0 : Int32)), (3, .int (((1 : Int32) <<< ((gI x6 49) &&& 31)) - (1 : Int32))), (0, .ref (zh G)), (1, .int a1), (2, .int a2)]) hx hb dX3_roping_82 hl (by decide) rfl (fun ls hl => ?_)
        obtain ⟨z11, e11, hr⟩ := ob hr
        refine m_join (I := fun (_ : Unit) H locs ls => mX G x6 H ∧ va_S (zA G) s.heap H locs ∧ lv_has ls 7 [(0, .ref (zh G)), (2, .int a2), (3, .int (((1 : Int32) <<< ((gI x6 49) &&& 31)) - (1 : Int32))), (4, .int z11.1), (5, .int z11.2)]) 145 (fun _ => []) (fun _ H locs ls hi => ?_) (fun J9_145 => ?_)
        · obtain ⟨hX, hS, hl⟩ := hi
          unfold fm_roping_k145 at hr
          refine lv_iload_n hx hb dX3_roping_145 rfl (lv_at hl 1 rfl) ?_
          refine lv_if_ne (tgt := 158) hx hb dX3_roping_146 (by decide) (fun c22 => ?_) (fun c22 => ?_)
          · replace hr := ie c22 hr
            refine lv_iload_n hx hb dX3_roping_158 rfl (lv_at hl 1 rfl) ?_
            refine lv_iconst (v := 1) hx hb dX3_roping_159 (by decide) ?_
            refine lv_icmp_ne (tgt := 168) hx hb dX3_roping_160 (by decide) (fun c23 => ?_) (fun c23 => ?_)
            · replace hr := ie c23 hr
              refine lv_iload hx hb dX3_roping_168 (lv_at hl 4 rfl) ?_
              exact m_riw (C := C) hret hlk hX hS (Option.some.inj hr) dX3_roping_170
            · replace hr := it c23 hr
              refine lv_iload hx hb dX3_roping_163 (lv_at hl 3 rfl) ?_
              refine lv_goto (tgt := 170) hx hb dX3_roping_165 (by decide) ?_
              exact m_riw (C := C) hret hlk hX hS (Option.some.inj hr) dX3_roping_170
          · replace hr := it c22 hr
            refine lv_aload_n hx hb dX3_roping_149 rfl (lv_at hl 0 rfl) ?_
            refine m_ga (k := 52) (d := 0) C q1750 rfl (by decide) hX dX3_roping_150 ?_
            refine lv_iload_n hx hb dX3_roping_153 rfl (lv_at hl 2 rfl) ?_
            obtain ⟨x24, e24, hr⟩ := ob hr
            refine m_ia (k := 52) C rfl hX e24 dX3_roping_154 ?_
            refine lv_goto (tgt := 170) hx hb dX3_roping_155 (by decide) ?_
            exact m_riw (C := C) hret hlk hX hS (Option.some.inj hr) dX3_roping_170
        refine m_loop e11 (fun (t9 : Int32 × Int32 × Int32) H locs ls => mX G x6 H ∧ va_S (zA G) s.heap H locs ∧ lv_has ls 7 [(0, .ref (zh G)), (2, .int a2), (3, .int (((1 : Int32) <<< ((gI x6 49) &&& 31)) - (1 : Int32))), (4, .int t9.1), (5, .int t9.2.1), (6, .int t9.2.2)]) 84 ⟨hX, hS, lv_sub hl [4, 6, 3, 2, 1, 0] rfl⟩ (fun t9 y9 b9 w9 k9 H locs ls hi => ?_)
        obtain ⟨hX, hS, hl⟩ := hi
        unfold fm_roping_l84 at b9
        refine lv_iload hx hb dX3_roping_84 (lv_at hl 5 rfl) ?_
        refine lv_if_eq (tgt := 145) hx hb dX3_roping_86 (by decide) (fun c12 => ?_) (fun c12 => ?_)
        · replace b9 := it c12 b9
          replace b9 := lx b9 w9
          subst b9
          exact J9_145 () _ _ ls ⟨hX, hS, lv_sub hl [0, 1, 2, 3, 4] rfl⟩
        · replace b9 := ie c12 b9
          refine lv_iinc (v := (t9.1 + (1 : Int32))) (k := 3) (lv' := [(4, .int (t9.1 + (1 : Int32))), (0, .ref (zh G)), (2, .int a2), (3, .int (((1 : Int32) <<< ((gI x6 49) &&& 31)) - (1 : Int32))), (5, .int t9.2.1), (6, .int t9.2.2)]) hx hb dX3_roping_89 hl rfl rfl (by decide) rfl (fun ls hl => ?_)
          refine lv_iload_n hx hb dX3_roping_92 rfl (lv_at hl 2 rfl) ?_
          refine lv_bipush (v := 10) hx hb dX3_roping_93 (by decide) ?_
          obtain ⟨x13, r13, b9⟩ := ob b9
          refine m_join (I := fun (t14 : Int32) H locs ls => x13 = t14 ∧ mX G x6 H ∧ va_S (zA G) s.heap H locs ∧ lv_has ls 7 [(0, .ref (zh G)), (2, .int a2), (3, .int (((1 : Int32) <<< ((gI x6 49) &&& 31)) - (1 : Int32))), (4, .int (t9.1 + (1 : Int32))), (6, .int t9.2.2)]) 128 (fun t14 => [.int t14]) (fun t14 H locs ls hi => ?_) (fun J13 => ?_)
          · obtain ⟨rfl, hX, hS, hl⟩ := hi
            refine lv_istore (lv' := [(5, .int x13), (0, .ref (zh G)), (2, .int a2), (3, .int (((1 : Int32) <<< ((gI x6 49) &&& 31)) - (1 : Int32))), (4, .int (t9.1 + (1 : Int32))), (6, .int t9.2.2)]) hx hb dX3_roping_128 hl (by decide) rfl (fun ls hl => ?_)
            refine lv_iload hx hb dX3_roping_130 (lv_at hl 5 rfl) ?_
            refine lv_aload_n hx hb dX3_roping_132 rfl (lv_at hl 1 rfl) ?_
            refine m_ga (k := 53) (d := 0) C q1751 rfl (by decide) hX dX3_roping_133 ?_
            refine lv_iload hx hb dX3_roping_136 (lv_at hl 5 rfl) ?_
            obtain ⟨x19, e19, b9⟩ := ob b9
            refine m_ia (k := 53) C rfl hX e19 dX3_roping_138 ?_
            refine lv_isub hx hb dX3_roping_139 ?_
            refine lv_istore (lv' := [(6, .int (t9.2.2 - x19)), (5, .int x13), (0, .ref (zh G)), (2, .int a2), (3, .int (((1 : Int32) <<< ((gI x6 49) &&& 31)) - (1 : Int32))), (4, .int (t9.1 + (1 : Int32)))]) hx hb dX3_roping_140 hl (by decide) rfl (fun ls hl => ?_)
            refine lv_goto (tgt := 84) hx hb dX3_roping_142 (by decide) ?_
            obtain ⟨g20, hg20⟩ : ∃ g, g = (t9.1 + (1 : Int32)) := ⟨_, rfl⟩
            rw [← hg20] at hl b9
            obtain ⟨g21, hg21⟩ : ∃ g, g = (t9.2.2 - x19) := ⟨_, rfl⟩
            rw [← hg21] at hl b9
            exact k9 _ (Option.some.inj b9).symm _ _ ls ⟨hX, hS, lv_sub hl [2, 3, 4, 5, 1, 0] rfl⟩
          · refine lv_icmp_lt (tgt := 126) hx hb dX3_roping_95 (by decide) (fun c15 => ?_) (fun c15 => ?_)
            · replace r13 := it c15 r13
              refine lv_iload hx hb dX3_roping_126 (lv_at hl 4 rfl) ?_
              exact J13 _ _ _ ls ⟨(Option.some.inj r13).symm, hX, hS, lv_sub hl [1, 2, 3, 0, 5] rfl⟩
            · replace r13 := ie c15 r13
              refine lv_aload_n hx hb dX3_roping_98 rfl (lv_at hl 1 rfl) ?_
              refine m_ga (k := 53) (d := 0) C q1751 rfl (by decide) hX dX3_roping_99 ?_
              refine lv_iload hx hb dX3_roping_102 (lv_at hl 5 rfl) ?_
              obtain ⟨x16, e16, r13⟩ := ob r13
              refine m_ia (k := 53) C rfl hX e16 dX3_roping_104 ?_
              refine lv_iload_n hx hb dX3_roping_105 rfl (lv_at hl 2 rfl) ?_
              refine lv_bipush (v := 10) hx hb dX3_roping_106 (by decide) ?_
              refine lv_isub hx hb dX3_roping_108 ?_
              refine lv_ishr hx hb dX3_roping_109 ?_
              refine lv_iconst (v := 1) hx hb dX3_roping_110 (by decide) ?_
              refine lv_iand hx hb dX3_roping_111 ?_
              refine lv_iconst (v := 1) hx hb dX3_roping_112 (by decide) ?_
              refine lv_icmp_ne (tgt := 126) hx hb dX3_roping_113 (by decide) (fun c17 => ?_) (fun c17 => ?_)
              · replace r13 := ie c17 r13
                refine lv_iload hx hb dX3_roping_126 (lv_at hl 4 rfl) ?_
                exact J13 _ _ _ ls ⟨(Option.some.inj r13).symm, hX, hS, lv_sub hl [1, 2, 3, 0, 5] rfl⟩
              · replace r13 := it c17 r13
                refine lv_aload_n hx hb dX3_roping_116 rfl (lv_at hl 1 rfl) ?_
                refine m_ga (k := 53) (d := 0) C q1751 rfl (by decide) hX dX3_roping_117 ?_
                refine lv_iload hx hb dX3_roping_120 (lv_at hl 5 rfl) ?_
                obtain ⟨x18, e18, r13⟩ := ob r13
                refine m_ia (k := 53) C rfl hX e18 dX3_roping_122 ?_
                refine lv_goto (tgt := 128) hx hb dX3_roping_123 (by decide) ?_
                exact J13 _ _ _ ls ⟨(Option.some.inj r13).symm, hX, hS, lv_sub hl [1, 2, 3, 0, 5] rfl⟩
      · replace hr := it c8 hr
        refine lv_sipush (v := -1004) hx hb dX3_roping_71 (by decide) ?_
        exact m_riw (C := C) hret hlk hX hS (Option.some.inj hr) dX3_roping_74
    · refine lv_if_ne (tgt := 45) hx hb dX3_roping_19 (by decide) (fun c4 => ?_) (fun c4 => ?_)
      · replace r2 := ie c4 r2
        exact J2 _ _ _ ls ⟨(Option.some.inj r2).symm, hX, hS, hl⟩
      · replace r2 := it c4 r2
        refine lv_iload_n hx hb dX3_roping_22 rfl (lv_at hl 2 rfl) ?_
        refine lv_i2l (v := a2.toInt64) hx hb dX3_roping_23 rfl ?_
        refine lv_ldc2 hx hb hown (hts _ q2019) dX3_roping_24 ?_
        refine lv_bipush (v := 9) hx hb dX3_roping_27 (by decide) ?_
        refine lv_aload_n hx hb dX3_roping_29 rfl (lv_at hl 0 rfl) ?_
        refine m_gi (k := 49) C q1747 rfl hX dX3_roping_30 ?_
        refine lv_iadd hx hb dX3_roping_33 ?_
        refine lv_i2l (v := ((9 : Int32) + (gI S 49)).toInt64) hx hb dX3_roping_34 rfl ?_
        refine m_csi (As := [.long a2.toInt64, .long (10 : Int64), .long (((9 : Int32) + (gI S 49)).toInt64)]) (rest := []) C hX hS hl.1 (cm_in l a2.toInt64 (10 : Int64) (((9 : Int32) + (gI S 49)).toInt64) rfl) (va_cwS 3 hts (lw_S q1974 q1975 q109 q1976) rfl rfl rfl (by decide +kernel) ⟨Nat.le_of_ble_eq_true rfl, Nat.le_of_ble_eq_true rfl⟩) rfl rfl (Nat.le_of_ble_eq_true rfl) dX3_roping_35 (fun H locs hX hS => ?_)
        refine lv_if_ne (tgt := 45) hx hb dX3_roping_38 (by decide) (fun c5 => ?_) (fun c5 => ?_)
        · replace r2 := ie c5 r2
          exact J2 _ _ _ ls ⟨(Option.some.inj r2).symm, hX, hS, hl⟩
        · replace r2 := it c5 r2
          refine lv_sipush (v := -1000) hx hb dX3_roping_41 (by decide) ?_
          replace r2 := Option.some.inj r2
          subst r2
          replace hr := sk_r hr
          exact m_riw (C := C) hret hlk hX hS (Option.some.inj hr) dX3_roping_44
