/-! M's methods, printed by tool/genm.py -/
def fm_is_k59 (S : mS) (a1 : Int32) (a5 : Int32) (t7 : Unit) : Option (Int32) :=
  (if a1 < (4 : Int32) then
  some (1 : Int32)
  else
  (fm_look S ((gI S 30) + (3 : Int32))).bind fun x12 =>
  (if x12 = a5 then
  some (1 : Int32)
  else
  some (0 : Int32)))
def fm_is (S : mS) (a1 : Int32) (a2 : Int32) (a3 : Int32) (a4 : Int32) (a5 : Int32) : Option Int32 :=
  (if ((gI S 29) - (gI S 30)) = a1 then
  (fm_look S (gI S 30)).bind fun x2 =>
  (if x2 = a2 then
  (fm_look S ((gI S 30) + (1 : Int32))).bind fun x4 =>
  (if x4 = a3 then
  (((if a1 < (3 : Int32) then
  some (.inl ())
  else
  (fm_look S ((gI S 30) + (2 : Int32))).bind fun x9 =>
  (if x9 = a4 then
  some (.inl ())
  else
  some (.inr (some (0 : Int32))))) : Option ((Unit) ⊕ Option (Int32)))).bind (sumK (fun t7 => fm_is_k59 S a1 a5 t7) (fun z => z))
  else
  some (0 : Int32))
  else
  some (0 : Int32))
  else
  some (0 : Int32))
set_option maxHeartbeats 4000000 in
set_option maxRecDepth 100000 in
theorem cm_is (l : Launch) (G : mGh) (hG : mOk G) (S : mS) (a1 : Int32) (a2 : Int32) (a3 : Int32) (a4 : Int32) (a5 : Int32) {r : Int32} (hr : fm_is S a1 a2 a3 a4 a5 = some r) : Met l yX3_is (ws_ yX3_is cX3_is 6 (some .boolean)) ({ frames := 1, cells := 0, slots := 0, locals := 21 } : Room) (mPc G [.int a1, .int a2, .int a3, .int a4, .int a5] S) (mQi G r S) 0 0 (zA G) := by
  refine m_met cX3_is (by decide) rfl hG (Nat.le_of_ble_eq_true rfl) (fun p e s m args below meth c C hret hlk ls hX hl => ?_)
  have hx := C.1.1
  have hb := C.1.2.1
  have hown := C.1.2.2.2.1
  have hts := C.1.2.2.2.2
  have hS : va_S (zA G) s.heap s.heap [] := va_S.rf
  have hl : lv_has ls 6 [(0, .ref (zh G)), (1, .int a1), (2, .int a2), (3, .int a3), (4, .int a4), (5, .int a5)] := hl
  unfold fm_is at hr
  refine lv_aload_n hx hb dX3_is_0 rfl (lv_at hl 0 rfl) ?_
  refine m_gi (k := 29) C q1727 rfl hX dX3_is_1 ?_
  refine lv_aload_n hx hb dX3_is_4 rfl (lv_at hl 0 rfl) ?_
  refine m_gi (k := 30) C q1728 rfl hX dX3_is_5 ?_
  refine lv_isub hx hb dX3_is_8 ?_
  refine lv_iload_n hx hb dX3_is_9 rfl (lv_at hl 1 rfl) ?_
  refine lv_icmp_ne (tgt := 83) hx hb dX3_is_10 (by decide) (fun c1 => ?_) (fun c1 => ?_)
  · replace hr := ie c1 hr
    refine lv_iconst (v := 0) hx hb dX3_is_83 (by decide) ?_
    exact m_rz (C := C) hret hlk hX hS (by decide) (Option.some.inj hr) dX3_is_84
  · replace hr := it c1 hr
    refine lv_aload_n hx hb dX3_is_13 rfl (lv_at hl 0 rfl) ?_
    refine lv_aload_n hx hb dX3_is_14 rfl (lv_at hl 0 rfl) ?_
    refine m_gi (k := 30) C q1728 rfl hX dX3_is_15 ?_
    obtain ⟨x2, e2, hr⟩ := ob hr
    refine m_cvi (As := [.int (gI S 30)]) (rest := []) C hX hS hl.1 (cm_look l G hG S (gI S 30) e2) (cwV 1 hts (lw_V q2142 q2144 qs66 q109 q2145) rfl rfl rfl (by decide +kernel) ⟨Nat.le_of_ble_eq_true rfl, Nat.le_of_ble_eq_true rfl⟩) rfl rfl (Nat.le_of_ble_eq_true rfl) dX3_is_18 (fun H locs hX hS => ?_)
    refine lv_iload_n hx hb dX3_is_21 rfl (lv_at hl 2 rfl) ?_
    refine lv_icmp_ne (tgt := 83) hx hb dX3_is_22 (by decide) (fun c3 => ?_) (fun c3 => ?_)
    · replace hr := ie c3 hr
      refine lv_iconst (v := 0) hx hb dX3_is_83 (by decide) ?_
      exact m_rz (C := C) hret hlk hX hS (by decide) (Option.some.inj hr) dX3_is_84
    · replace hr := it c3 hr
      refine lv_aload_n hx hb dX3_is_25 rfl (lv_at hl 0 rfl) ?_
      refine lv_aload_n hx hb dX3_is_26 rfl (lv_at hl 0 rfl) ?_
      refine m_gi (k := 30) C q1728 rfl hX dX3_is_27 ?_
      refine lv_iconst (v := 1) hx hb dX3_is_30 (by decide) ?_
      refine lv_iadd hx hb dX3_is_31 ?_
      obtain ⟨x4, e4, hr⟩ := ob hr
      refine m_cvi (As := [.int ((gI S 30) + (1 : Int32))]) (rest := []) C hX hS hl.1 (cm_look l G hG S ((gI S 30) + (1 : Int32)) e4) (cwV 1 hts (lw_V q2142 q2144 qs66 q109 q2145) rfl rfl rfl (by decide +kernel) ⟨Nat.le_of_ble_eq_true rfl, Nat.le_of_ble_eq_true rfl⟩) rfl rfl (Nat.le_of_ble_eq_true rfl) dX3_is_32 (fun H locs hX hS => ?_)
      refine lv_iload_n hx hb dX3_is_35 rfl (lv_at hl 3 rfl) ?_
      refine lv_icmp_ne (tgt := 83) hx hb dX3_is_36 (by decide) (fun c5 => ?_) (fun c5 => ?_)
      · replace hr := ie c5 hr
        refine lv_iconst (v := 0) hx hb dX3_is_83 (by decide) ?_
        exact m_rz (C := C) hret hlk hX hS (by decide) (Option.some.inj hr) dX3_is_84
      · replace hr := it c5 hr
        refine lv_iload_n hx hb dX3_is_39 rfl (lv_at hl 1 rfl) ?_
        refine lv_iconst (v := 3) hx hb dX3_is_40 (by decide) ?_
        obtain ⟨x6, r6, hr⟩ := ob hr
        refine m_join (I := fun (t7 : Unit) H locs ls => x6 = .inl t7 ∧ mX G S H ∧ va_S (zA G) s.heap H locs ∧ lv_has ls 6 [(0, .ref (zh G)), (1, .int a1), (5, .int a5)]) 59 (fun t7 => []) (fun t7 H locs ls hi => ?_) (fun J6 => ?_)
        · obtain ⟨rfl, hX, hS, hl⟩ := hi
          replace hr := sk_l hr
          unfold fm_is_k59 at hr
          refine lv_iload_n hx hb dX3_is_59 rfl (lv_at hl 1 rfl) ?_
          refine lv_iconst (v := 4) hx hb dX3_is_60 (by decide) ?_
          refine lv_icmp_lt (tgt := 79) hx hb dX3_is_61 (by decide) (fun c11 => ?_) (fun c11 => ?_)
          · replace hr := it c11 hr
            refine lv_iconst (v := 1) hx hb dX3_is_79 (by decide) ?_
            refine lv_goto (tgt := 84) hx hb dX3_is_80 (by decide) ?_
            exact m_rz (C := C) hret hlk hX hS (by decide) (Option.some.inj hr) dX3_is_84
          · replace hr := ie c11 hr
            refine lv_aload_n hx hb dX3_is_64 rfl (lv_at hl 0 rfl) ?_
            refine lv_aload_n hx hb dX3_is_65 rfl (lv_at hl 0 rfl) ?_
            refine m_gi (k := 30) C q1728 rfl hX dX3_is_66 ?_
            refine lv_iconst (v := 3) hx hb dX3_is_69 (by decide) ?_
            refine lv_iadd hx hb dX3_is_70 ?_
            obtain ⟨x12, e12, hr⟩ := ob hr
            refine m_cvi (As := [.int ((gI S 30) + (3 : Int32))]) (rest := []) C hX hS hl.1 (cm_look l G hG S ((gI S 30) + (3 : Int32)) e12) (cwV 1 hts (lw_V q2142 q2144 qs66 q109 q2145) rfl rfl rfl (by decide +kernel) ⟨Nat.le_of_ble_eq_true rfl, Nat.le_of_ble_eq_true rfl⟩) rfl rfl (Nat.le_of_ble_eq_true rfl) dX3_is_71 (fun H locs hX hS => ?_)
            refine lv_iload hx hb dX3_is_74 (lv_at hl 2 rfl) ?_
            refine lv_icmp_ne (tgt := 83) hx hb dX3_is_76 (by decide) (fun c13 => ?_) (fun c13 => ?_)
            · replace hr := ie c13 hr
              refine lv_iconst (v := 0) hx hb dX3_is_83 (by decide) ?_
              exact m_rz (C := C) hret hlk hX hS (by decide) (Option.some.inj hr) dX3_is_84
            · replace hr := it c13 hr
              refine lv_iconst (v := 1) hx hb dX3_is_79 (by decide) ?_
              refine lv_goto (tgt := 84) hx hb dX3_is_80 (by decide) ?_
              exact m_rz (C := C) hret hlk hX hS (by decide) (Option.some.inj hr) dX3_is_84
        · refine lv_icmp_lt (tgt := 59) hx hb dX3_is_41 (by decide) (fun c8 => ?_) (fun c8 => ?_)
          · replace r6 := it c8 r6
            exact J6 _ _ _ ls ⟨(Option.some.inj r6).symm, hX, hS, lv_sub hl [0, 1, 5] rfl⟩
          · replace r6 := ie c8 r6
            refine lv_aload_n hx hb dX3_is_44 rfl (lv_at hl 0 rfl) ?_
            refine lv_aload_n hx hb dX3_is_45 rfl (lv_at hl 0 rfl) ?_
            refine m_gi (k := 30) C q1728 rfl hX dX3_is_46 ?_
            refine lv_iconst (v := 2) hx hb dX3_is_49 (by decide) ?_
            refine lv_iadd hx hb dX3_is_50 ?_
            obtain ⟨x9, e9, r6⟩ := ob r6
            refine m_cvi (As := [.int ((gI S 30) + (2 : Int32))]) (rest := []) C hX hS hl.1 (cm_look l G hG S ((gI S 30) + (2 : Int32)) e9) (cwV 1 hts (lw_V q2142 q2144 qs66 q109 q2145) rfl rfl rfl (by decide +kernel) ⟨Nat.le_of_ble_eq_true rfl, Nat.le_of_ble_eq_true rfl⟩) rfl rfl (Nat.le_of_ble_eq_true rfl) dX3_is_51 (fun H locs hX hS => ?_)
            refine lv_iload hx hb dX3_is_54 (lv_at hl 4 rfl) ?_
            refine lv_icmp_ne (tgt := 83) hx hb dX3_is_56 (by decide) (fun c10 => ?_) (fun c10 => ?_)
            · replace r6 := ie c10 r6
              refine lv_iconst (v := 0) hx hb dX3_is_83 (by decide) ?_
              replace r6 := Option.some.inj r6
              subst r6
              replace hr := sk_r hr
              exact m_rz (C := C) hret hlk hX hS (by decide) (Option.some.inj hr) dX3_is_84
            · replace r6 := it c10 r6
              exact J6 _ _ _ ls ⟨(Option.some.inj r6).symm, hX, hS, lv_sub hl [0, 1, 5] rfl⟩

def fm_goesWith (S : mS) (a1 : Int32) (a2 : Int32) (a3 : Int32) : Option Int32 :=
  (fm_look S ((gI S 30) + a1)).bind fun x1 =>
  (if x1 = a2 then
  (fm_look S (((gI S 30) + a1) + (1 : Int32))).bind fun x3 =>
  (if x3 = a3 then
  some (1 : Int32)
  else
  some (0 : Int32))
  else
  some (0 : Int32))
set_option maxHeartbeats 4000000 in
set_option maxRecDepth 100000 in
theorem cm_goesWith (l : Launch) (G : mGh) (hG : mOk G) (S : mS) (a1 : Int32) (a2 : Int32) (a3 : Int32) {r : Int32} (hr : fm_goesWith S a1 a2 a3 = some r) : Met l yX3_goesWith (ws_ yX3_goesWith cX3_goesWith 4 (some .boolean)) ({ frames := 1, cells := 0, slots := 0, locals := 21 } : Room) (mPc G [.int a1, .int a2, .int a3] S) (mQi G r S) 0 0 (zA G) := by
  refine m_met cX3_goesWith (by decide) rfl hG (Nat.le_of_ble_eq_true rfl) (fun p e s m args below meth c C hret hlk ls hX hl => ?_)
  have hx := C.1.1
  have hb := C.1.2.1
  have hown := C.1.2.2.2.1
  have hts := C.1.2.2.2.2
  have hS : va_S (zA G) s.heap s.heap [] := va_S.rf
  have hl : lv_has ls 4 [(0, .ref (zh G)), (1, .int a1), (2, .int a2), (3, .int a3)] := hl
  unfold fm_goesWith at hr
  refine lv_aload_n hx hb dX3_goesWith_0 rfl (lv_at hl 0 rfl) ?_
  refine lv_aload_n hx hb dX3_goesWith_1 rfl (lv_at hl 0 rfl) ?_
  refine m_gi (k := 30) C q1728 rfl hX dX3_goesWith_2 ?_
  refine lv_iload_n hx hb dX3_goesWith_5 rfl (lv_at hl 1 rfl) ?_
  refine lv_iadd hx hb dX3_goesWith_6 ?_
  obtain ⟨x1, e1, hr⟩ := ob hr
  refine m_cvi (As := [.int ((gI S 30) + a1)]) (rest := []) C hX hS hl.1 (cm_look l G hG S ((gI S 30) + a1) e1) (cwV 1 hts (lw_V q2142 q2144 qs66 q109 q2145) rfl rfl rfl (by decide +kernel) ⟨Nat.le_of_ble_eq_true rfl, Nat.le_of_ble_eq_true rfl⟩) rfl rfl (Nat.le_of_ble_eq_true rfl) dX3_goesWith_7 (fun H locs hX hS => ?_)
  refine lv_iload_n hx hb dX3_goesWith_10 rfl (lv_at hl 2 rfl) ?_
  refine lv_icmp_ne (tgt := 34) hx hb dX3_goesWith_11 (by decide) (fun c2 => ?_) (fun c2 => ?_)
  · replace hr := ie c2 hr
    refine lv_iconst (v := 0) hx hb dX3_goesWith_34 (by decide) ?_
    exact m_rz (C := C) hret hlk hX hS (by decide) (Option.some.inj hr) dX3_goesWith_35
  · replace hr := it c2 hr
    refine lv_aload_n hx hb dX3_goesWith_14 rfl (lv_at hl 0 rfl) ?_
    refine lv_aload_n hx hb dX3_goesWith_15 rfl (lv_at hl 0 rfl) ?_
    refine m_gi (k := 30) C q1728 rfl hX dX3_goesWith_16 ?_
    refine lv_iload_n hx hb dX3_goesWith_19 rfl (lv_at hl 1 rfl) ?_
    refine lv_iadd hx hb dX3_goesWith_20 ?_
    refine lv_iconst (v := 1) hx hb dX3_goesWith_21 (by decide) ?_
    refine lv_iadd hx hb dX3_goesWith_22 ?_
    obtain ⟨x3, e3, hr⟩ := ob hr
    refine m_cvi (As := [.int (((gI S 30) + a1) + (1 : Int32))]) (rest := []) C hX hS hl.1 (cm_look l G hG S (((gI S 30) + a1) + (1 : Int32)) e3) (cwV 1 hts (lw_V q2142 q2144 qs66 q109 q2145) rfl rfl rfl (by decide +kernel) ⟨Nat.le_of_ble_eq_true rfl, Nat.le_of_ble_eq_true rfl⟩) rfl rfl (Nat.le_of_ble_eq_true rfl) dX3_goesWith_23 (fun H locs hX hS => ?_)
    refine lv_iload_n hx hb dX3_goesWith_26 rfl (lv_at hl 3 rfl) ?_
    refine lv_icmp_ne (tgt := 34) hx hb dX3_goesWith_27 (by decide) (fun c4 => ?_) (fun c4 => ?_)
    · replace hr := ie c4 hr
      refine lv_iconst (v := 0) hx hb dX3_goesWith_34 (by decide) ?_
      exact m_rz (C := C) hret hlk hX hS (by decide) (Option.some.inj hr) dX3_goesWith_35
    · replace hr := it c4 hr
      refine lv_iconst (v := 1) hx hb dX3_goesWith_30 (by decide) ?_
      refine lv_goto (tgt := 35) hx hb dX3_goesWith_31 (by decide) ?_
      exact m_rz (C := C) hret hlk hX hS (by decide) (Option.some.inj hr) dX3_goesWith_35

def fm_variableNow_k171 (S : mS) (t23 : Unit) : Option (Int32) :=
  (fm_is S (4 : Int32) (104 : Int32) (97 : Int32) (114 : Int32) (100 : Int32)).bind fun x27 =>
  (if x27 = 0 then
  (fm_is S (6 : Int32) (108 : Int32) (101 : Int32) (110 : Int32) (103 : Int32)).bind fun x29 =>
  (if x29 = 0 then
  (fm_is S (3 : Int32) (100 : Int32) (97 : Int32) (121 : Int32) (0 : Int32)).bind fun x31 =>
  (if x31 = 0 then
  some (-4 : Int32)
  else
  some (18 : Int32))
  else
  (fm_goesWith S (4 : Int32) (116 : Int32) (104 : Int32)).bind fun x33 =>
  (if x33 = 0 then
  (fm_is S (3 : Int32) (100 : Int32) (97 : Int32) (121 : Int32) (0 : Int32)).bind fun x35 =>
  (if x35 = 0 then
  some (-4 : Int32)
  else
  some (18 : Int32))
  else
  some (17 : Int32)))
  else
  some (16 : Int32))
def fm_variableNow_k139 (S : mS) (t17 : Unit) : Option (Int32) :=
  (fm_is S (6 : Int32) (112 : Int32) (101 : Int32) (111 : Int32) (112 : Int32)).bind fun x21 =>
  (((if x21 = 0 then
  some (.inl ())
  else
  (fm_goesWith S (4 : Int32) (108 : Int32) (101 : Int32)).bind fun x25 =>
  (if x25 = 0 then
  some (.inl ())
  else
  some (.inr (some (15 : Int32))))) : Option ((Unit) ⊕ Option (Int32)))).bind (sumK (fun t23 => fm_variableNow_k171 S t23) (fun z => z))
def fm_variableNow_k105 (S : mS) (t9 : Unit) : Option (Int32) :=
  (fm_is S (5 : Int32) (103 : Int32) (114 : Int32) (97 : Int32) (100 : Int32)).bind fun x15 =>
  (((if x15 = 0 then
  some (.inl ())
  else
  (fm_look S ((gI S 30) + (4 : Int32))).bind fun x19 =>
  (if x19 = (101 : Int32) then
  some (.inr (some (14 : Int32)))
  else
  some (.inl ()))) : Option ((Unit) ⊕ Option (Int32)))).bind (sumK (fun t17 => fm_variableNow_k139 S t17) (fun z => z))
def fm_variableNow (S : mS) : Option Int32 :=
  (fm_is S (4 : Int32) (119 : Int32) (105 : Int32) (110 : Int32) (100 : Int32)).bind fun x1 =>
  (if x1 = 0 then
  (fm_is S (4 : Int32) (114 : Int32) (97 : Int32) (105 : Int32) (110 : Int32)).bind fun x3 =>
  (if x3 = 0 then
  (fm_is S (4 : Int32) (115 : Int32) (110 : Int32) (111 : Int32) (119 : Int32)).bind fun x5 =>
  (if x5 = 0 then
  (fm_is S (7 : Int32) (113 : Int32) (117 : Int32) (97 : Int32) (114 : Int32)).bind fun x7 =>
  (((if x7 = 0 then
  some (.inl ())
  else
  (fm_goesWith S (4 : Int32) (116 : Int32) (101 : Int32)).bind fun x11 =>
  (if x11 = 0 then
  some (.inl ())
  else
  (fm_look S ((gI S 30) + (6 : Int32))).bind fun x13 =>
  (if x13 = (114 : Int32) then
  some (.inr (some (13 : Int32)))
  else
  some (.inl ())))) : Option ((Unit) ⊕ Option (Int32)))).bind (sumK (fun t9 => fm_variableNow_k105 S t9) (fun z => z))
  else
  some (12 : Int32))
  else
  some (11 : Int32))
  else
  some (10 : Int32))
set_option maxHeartbeats 4000000 in
set_option maxRecDepth 100000 in
theorem cm_variableNow (l : Launch) (G : mGh) (hG : mOk G) (S : mS)  {r : Int32} (hr : fm_variableNow S = some r) : Met l yX3_variableNow (ws_ yX3_variableNow cX3_variableNow 1 (some .int)) ({ frames := 2, cells := 0, slots := 0, locals := 46 } : Room) (mPc G [] S) (mQi G r S) 0 0 (zA G) := by
  refine m_met cX3_variableNow (by decide) rfl hG (Nat.le_of_ble_eq_true rfl) (fun p e s m args below meth c C hret hlk ls hX hl => ?_)
  have hx := C.1.1
  have hb := C.1.2.1
  have hown := C.1.2.2.2.1
  have hts := C.1.2.2.2.2
  have hS : va_S (zA G) s.heap s.heap [] := va_S.rf
  have hl : lv_has ls 1 [(0, .ref (zh G))] := hl
  unfold fm_variableNow at hr
  refine lv_aload_n hx hb dX3_variableNow_0 rfl (lv_at hl 0 rfl) ?_
  refine lv_iconst (v := 4) hx hb dX3_variableNow_1 (by decide) ?_
  refine lv_bipush (v := 119) hx hb dX3_variableNow_2 (by decide) ?_
  refine lv_bipush (v := 105) hx hb dX3_variableNow_4 (by decide) ?_
  refine lv_bipush (v := 110) hx hb dX3_variableNow_6 (by decide) ?_
  refine lv_bipush (v := 100) hx hb dX3_variableNow_8 (by decide) ?_
  obtain ⟨x1, e1, hr⟩ := ob hr
  refine m_cvi (As := [.int (4 : Int32), .int (119 : Int32), .int (105 : Int32), .int (110 : Int32), .int (100 : Int32)]) (rest := []) C hX hS hl.1 (cm_is l G hG S (4 : Int32) (119 : Int32) (105 : Int32) (110 : Int32) (100 : Int32) e1) (cwV 5 hts (lw_V q2152 q2154 qs68 q109 q2155) rfl rfl rfl (by decide +kernel) ⟨Nat.le_of_ble_eq_true rfl, Nat.le_of_ble_eq_true rfl⟩) rfl rfl (Nat.le_of_ble_eq_true rfl) dX3_variableNow_10 (fun H locs hX hS => ?_)
  refine lv_if_eq (tgt := 19) hx hb dX3_variableNow_13 (by decide) (fun c2 => ?_) (fun c2 => ?_)
  · replace hr := it c2 hr
    refine lv_aload_n hx hb dX3_variableNow_19 rfl (lv_at hl 0 rfl) ?_
    refine lv_iconst (v := 4) hx hb dX3_variableNow_20 (by decide) ?_
    refine lv_bipush (v := 114) hx hb dX3_variableNow_21 (by decide) ?_
    refine lv_bipush (v := 97) hx hb dX3_variableNow_23 (by decide) ?_
    refine lv_bipush (v := 105) hx hb dX3_variableNow_25 (by decide) ?_
    refine lv_bipush (v := 110) hx hb dX3_variableNow_27 (by decide) ?_
    obtain ⟨x3, e3, hr⟩ := ob hr
    refine m_cvi (As := [.int (4 : Int32), .int (114 : Int32), .int (97 : Int32), .int (105 : Int32), .int (110 : Int32)]) (rest := []) C hX hS hl.1 (cm_is l G hG S (4 : Int32) (114 : Int32) (97 : Int32) (105 : Int32) (110 : Int32) e3) (cwV 5 hts (lw_V q2152 q2154 qs68 q109 q2155) rfl rfl rfl (by decide +kernel) ⟨Nat.le_of_ble_eq_true rfl, Nat.le_of_ble_eq_true rfl⟩) rfl rfl (Nat.le_of_ble_eq_true rfl) dX3_variableNow_29 (fun H locs hX hS => ?_)
    refine lv_if_eq (tgt := 38) hx hb dX3_variableNow_32 (by decide) (fun c4 => ?_) (fun c4 => ?_)
    · replace hr := it c4 hr
      refine lv_aload_n hx hb dX3_variableNow_38 rfl (lv_at hl 0 rfl) ?_
      refine lv_iconst (v := 4) hx hb dX3_variableNow_39 (by decide) ?_
      refine lv_bipush (v := 115) hx hb dX3_variableNow_40 (by decide) ?_
      refine lv_bipush (v := 110) hx hb dX3_variableNow_42 (by decide) ?_
      refine lv_bipush (v := 111) hx hb dX3_variableNow_44 (by decide) ?_
      refine lv_bipush (v := 119) hx hb dX3_variableNow_46 (by decide) ?_
      obtain ⟨x5, e5, hr⟩ := ob hr
      refine m_cvi (As := [.int (4 : Int32), .int (115 : Int32), .int (110 : Int32), .int (111 : Int32), .int (119 : Int32)]) (rest := []) C hX hS hl.1 (cm_is l G hG S (4 : Int32) (115 : Int32) (110 : Int32) (111 : Int32) (119 : Int32) e5) (cwV 5 hts (lw_V q2152 q2154 qs68 q109 q2155) rfl rfl rfl (by decide +kernel) ⟨Nat.le_of_ble_eq_true rfl, Nat.le_of_ble_eq_true rfl⟩) rfl rfl (Nat.le_of_ble_eq_true rfl) dX3_variableNow_48 (fun H locs hX hS => ?_)
      refine lv_if_eq (tgt := 57) hx hb dX3_variableNow_51 (by decide) (fun c6 => ?_) (fun c6 => ?_)
      · replace hr := it c6 hr
        refine lv_aload_n hx hb dX3_variableNow_57 rfl (lv_at hl 0 rfl) ?_
        refine lv_bipush (v := 7) hx hb dX3_variableNow_58 (by decide) ?_
        refine lv_bipush (v := 113) hx hb dX3_variableNow_60 (by decide) ?_
        refine lv_bipush (v := 117) hx hb dX3_variableNow_62 (by decide) ?_
        refine lv_bipush (v := 97) hx hb dX3_variableNow_64 (by decide) ?_
        refine lv_bipush (v := 114) hx hb dX3_variableNow_66 (by decide) ?_
        obtain ⟨x7, e7, hr⟩ := ob hr
        refine m_cvi (As := [.int (7 : Int32), .int (113 : Int32), .int (117 : Int32), .int (97 : Int32), .int (114 : Int32)]) (rest := []) C hX hS hl.1 (cm_is l G hG S (7 : Int32) (113 : Int32) (117 : Int32) (97 : Int32) (114 : Int32) e7) (cwV 5 hts (lw_V q2152 q2154 qs68 q109 q2155) rfl rfl rfl (by decide +kernel) ⟨Nat.le_of_ble_eq_true rfl, Nat.le_of_ble_eq_true rfl⟩) rfl rfl (Nat.le_of_ble_eq_true rfl) dX3_variableNow_68 (fun H locs hX hS => ?_)
        obtain ⟨x8, r8, hr⟩ := ob hr
        refine m_join (I := fun (t9 : Unit) H locs ls => x8 = .inl t9 ∧ mX G S H ∧ va_S (zA G) s.heap H locs ∧ lv_has ls 1 [(0, .ref (zh G))]) 105 (fun t9 => []) (fun t9 H locs ls hi => ?_) (fun J8 => ?_)
        · obtain ⟨rfl, hX, hS, hl⟩ := hi
          replace hr := sk_l hr
          unfold fm_variableNow_k105 at hr
          refine lv_aload_n hx hb dX3_variableNow_105 rfl (lv_at hl 0 rfl) ?_
          refine lv_iconst (v := 5) hx hb dX3_variableNow_106 (by decide) ?_
          refine lv_bipush (v := 103) hx hb dX3_variableNow_107 (by decide) ?_
          refine lv_bipush (v := 114) hx hb dX3_variableNow_109 (by decide) ?_
          refine lv_bipush (v := 97) hx hb dX3_variableNow_111 (by decide) ?_
          refine lv_bipush (v := 100) hx hb dX3_variableNow_113 (by decide) ?_
          obtain ⟨x15, e15, hr⟩ := ob hr
          refine m_cvi (As := [.int (5 : Int32), .int (103 : Int32), .int (114 : Int32), .int (97 : Int32), .int (100 : Int32)]) (rest := []) C hX hS hl.1 (cm_is l G hG S (5 : Int32) (103 : Int32) (114 : Int32) (97 : Int32) (100 : Int32) e15) (cwV 5 hts (lw_V q2152 q2154 qs68 q109 q2155) rfl rfl rfl (by decide +kernel) ⟨Nat.le_of_ble_eq_true rfl, Nat.le_of_ble_eq_true rfl⟩) rfl rfl (Nat.le_of_ble_eq_true rfl) dX3_variableNow_115 (fun H locs hX hS => ?_)
          obtain ⟨x16, r16, hr⟩ := ob hr
          refine m_join (I := fun (t17 : Unit) H locs ls => x16 = .inl t17 ∧ mX G S H ∧ va_S (zA G) s.heap H locs ∧ lv_has ls 1 [(0, .ref (zh G))]) 139 (fun t17 => []) (fun t17 H locs ls hi => ?_) (fun J16 => ?_)
          · obtain ⟨rfl, hX, hS, hl⟩ := hi
            replace hr := sk_l hr
            unfold fm_variableNow_k139 at hr
            refine lv_aload_n hx hb dX3_variableNow_139 rfl (lv_at hl 0 rfl) ?_
            refine lv_bipush (v := 6) hx hb dX3_variableNow_140 (by decide) ?_
            refine lv_bipush (v := 112) hx hb dX3_variableNow_142 (by decide) ?_
            refine lv_bipush (v := 101) hx hb dX3_variableNow_144 (by decide) ?_
            refine lv_bipush (v := 111) hx hb dX3_variableNow_146 (by decide) ?_
            refine lv_bipush (v := 112) hx hb dX3_variableNow_148 (by decide) ?_
            obtain ⟨x21, e21, hr⟩ := ob hr
            refine m_cvi (As := [.int (6 : Int32), .int (112 : Int32), .int (101 : Int32), .int (111 : Int32), .int (112 : Int32)]) (rest := []) C hX hS hl.1 (cm_is l G hG S (6 : Int32) (112 : Int32) (101 : Int32) (111 : Int32) (112 : Int32) e21) (cwV 5 hts (lw_V q2152 q2154 qs68 q109 q2155) rfl rfl rfl (by decide +kernel) ⟨Nat.le_of_ble_eq_true rfl, Nat.le_of_ble_eq_true rfl⟩) rfl rfl (Nat.le_of_ble_eq_true rfl) dX3_variableNow_150 (fun H locs hX hS => ?_)
            obtain ⟨x22, r22, hr⟩ := ob hr
            refine m_join (I := fun (t23 : Unit) H locs ls => x22 = .inl t23 ∧ mX G S H ∧ va_S (zA G) s.heap H locs ∧ lv_has ls 1 [(0, .ref (zh G))]) 171 (fun t23 => []) (fun t23 H locs ls hi => ?_) (fun J22 => ?_)
            · obtain ⟨rfl, hX, hS, hl⟩ := hi
              replace hr := sk_l hr
              unfold fm_variableNow_k171 at hr
              refine lv_aload_n hx hb dX3_variableNow_171 rfl (lv_at hl 0 rfl) ?_
              refine lv_iconst (v := 4) hx hb dX3_variableNow_172 (by decide) ?_
              refine lv_bipush (v := 104) hx hb dX3_variableNow_173 (by decide) ?_
              refine lv_bipush (v := 97) hx hb dX3_variableNow_175 (by decide) ?_
              refine lv_bipush (v := 114) hx hb dX3_variableNow_177 (by decide) ?_
              refine lv_bipush (v := 100) hx hb dX3_variableNow_179 (by decide) ?_
              obtain ⟨x27, e27, hr⟩ := ob hr
              refine m_cvi (As := [.int (4 : Int32), .int (104 : Int32), .int (97 : Int32), .int (114 : Int32), .int (100 : Int32)]) (rest := []) C hX hS hl.1 (cm_is l G hG S (4 : Int32) (104 : Int32) (97 : Int32) (114 : Int32) (100 : Int32) e27) (cwV 5 hts (lw_V q2152 q2154 qs68 q109 q2155) rfl rfl rfl (by decide +kernel) ⟨Nat.le_of_ble_eq_true rfl, Nat.le_of_ble_eq_true rfl⟩) rfl rfl (Nat.le_of_ble_eq_true rfl) dX3_variableNow_181 (fun H locs hX hS => ?_)
              refine lv_if_eq (tgt := 190) hx hb dX3_variableNow_184 (by decide) (fun c28 => ?_) (fun c28 => ?_)
              · replace hr := it c28 hr
                refine lv_aload_n hx hb dX3_variableNow_190 rfl (lv_at hl 0 rfl) ?_
                refine lv_bipush (v := 6) hx hb dX3_variableNow_191 (by decide) ?_
                refine lv_bipush (v := 108) hx hb dX3_variableNow_193 (by decide) ?_
                refine lv_bipush (v := 101) hx hb dX3_variableNow_195 (by decide) ?_
                refine lv_bipush (v := 110) hx hb dX3_variableNow_197 (by decide) ?_
                refine lv_bipush (v := 103) hx hb dX3_variableNow_199 (by decide) ?_
                obtain ⟨x29, e29, hr⟩ := ob hr
                refine m_cvi (As := [.int (6 : Int32), .int (108 : Int32), .int (101 : Int32), .int (110 : Int32), .int (103 : Int32)]) (rest := []) C hX hS hl.1 (cm_is l G hG S (6 : Int32) (108 : Int32) (101 : Int32) (110 : Int32) (103 : Int32) e29) (cwV 5 hts (lw_V q2152 q2154 qs68 q109 q2155) rfl rfl rfl (by decide +kernel) ⟨Nat.le_of_ble_eq_true rfl, Nat.le_of_ble_eq_true rfl⟩) rfl rfl (Nat.le_of_ble_eq_true rfl) dX3_variableNow_201 (fun H locs hX hS => ?_)
                refine lv_if_eq (tgt := 222) hx hb dX3_variableNow_204 (by decide) (fun c30 => ?_) (fun c30 => ?_)
                · replace hr := it c30 hr
                  refine lv_aload_n hx hb dX3_variableNow_222 rfl (lv_at hl 0 rfl) ?_
                  refine lv_iconst (v := 3) hx hb dX3_variableNow_223 (by decide) ?_
                  refine lv_bipush (v := 100) hx hb dX3_variableNow_224 (by decide) ?_
                  refine lv_bipush (v := 97) hx hb dX3_variableNow_226 (by decide) ?_
                  refine lv_bipush (v := 121) hx hb dX3_variableNow_228 (by decide) ?_
                  refine lv_iconst (v := 0) hx hb dX3_variableNow_230 (by decide) ?_
                  obtain ⟨x31, e31, hr⟩ := ob hr
                  refine m_cvi (As := [.int (3 : Int32), .int (100 : Int32), .int (97 : Int32), .int (121 : Int32), .int (0 : Int32)]) (rest := []) C hX hS hl.1 (cm_is l G hG S (3 : Int32) (100 : Int32) (97 : Int32) (121 : Int32) (0 : Int32) e31) (cwV 5 hts (lw_V q2152 q2154 qs68 q109 q2155) rfl rfl rfl (by decide +kernel) ⟨Nat.le_of_ble_eq_true rfl, Nat.le_of_ble_eq_true rfl⟩) rfl rfl (Nat.le_of_ble_eq_true rfl) dX3_variableNow_231 (fun H locs hX hS => ?_)
                  refine lv_if_eq (tgt := 242) hx hb dX3_variableNow_234 (by decide) (fun c32 => ?_) (fun c32 => ?_)
                  · replace hr := it c32 hr
                    refine lv_bipush (v := -4) hx hb dX3_variableNow_242 (by decide) ?_
                    exact m_ri (C := C) hret hlk hX hS (Option.some.inj hr) dX3_variableNow_244
                  · replace hr := ie c32 hr
                    refine lv_bipush (v := 18) hx hb dX3_variableNow_237 (by decide) ?_
                    refine lv_goto (tgt := 244) hx hb dX3_variableNow_239 (by decide) ?_
                    exact m_ri (C := C) hret hlk hX hS (Option.some.inj hr) dX3_variableNow_244
                · replace hr := ie c30 hr
                  refine lv_aload_n hx hb dX3_variableNow_207 rfl (lv_at hl 0 rfl) ?_
                  refine lv_iconst (v := 4) hx hb dX3_variableNow_208 (by decide) ?_
                  refine lv_bipush (v := 116) hx hb dX3_variableNow_209 (by decide) ?_
                  refine lv_bipush (v := 104) hx hb dX3_variableNow_211 (by decide) ?_
                  obtain ⟨x33, e33, hr⟩ := ob hr
                  refine m_cvi (As := [.int (4 : Int32), .int (116 : Int32), .int (104 : Int32)]) (rest := []) C hX hS hl.1 (cm_goesWith l G hG S (4 : Int32) (116 : Int32) (104 : Int32) e33) (cwV 3 hts (lw_V q2160 q2162 qs70 q109 q2163) rfl rfl rfl (by decide +kernel) ⟨Nat.le_of_ble_eq_true rfl, Nat.le_of_ble_eq_true rfl⟩) rfl rfl (Nat.le_of_ble_eq_true rfl) dX3_variableNow_213 (fun H locs hX hS => ?_)
                  refine lv_if_eq (tgt := 222) hx hb dX3_variableNow_216 (by decide) (fun c34 => ?_) (fun c34 => ?_)
                  · replace hr := it c34 hr
                    refine lv_aload_n hx hb dX3_variableNow_222 rfl (lv_at hl 0 rfl) ?_
                    refine lv_iconst (v := 3) hx hb dX3_variableNow_223 (by decide) ?_
                    refine lv_bipush (v := 100) hx hb dX3_variableNow_224 (by decide) ?_
                    refine lv_bipush (v := 97) hx hb dX3_variableNow_226 (by decide) ?_
                    refine lv_bipush (v := 121) hx hb dX3_variableNow_228 (by decide) ?_
                    refine lv_iconst (v := 0) hx hb dX3_variableNow_230 (by decide) ?_
                    obtain ⟨x35, e35, hr⟩ := ob hr
                    refine m_cvi (As := [.int (3 : Int32), .int (100 : Int32), .int (97 : Int32), .int (121 : Int32), .int (0 : Int32)]) (rest := []) C hX hS hl.1 (cm_is l G hG S (3 : Int32) (100 : Int32) (97 : Int32) (121 : Int32) (0 : Int32) e35) (cwV 5 hts (lw_V q2152 q2154 qs68 q109 q2155) rfl rfl rfl (by decide +kernel) ⟨Nat.le_of_ble_eq_true rfl, Nat.le_of_ble_eq_true rfl⟩) rfl rfl (Nat.le_of_ble_eq_true rfl) dX3_variableNow_231 (fun H locs hX hS => ?_)
                    refine lv_if_eq (tgt := 242) hx hb dX3_variableNow_234 (by decide) (fun c36 => ?_) (fun c36 => ?_)
                    · replace hr := it c36 hr
                      refine lv_bipush (v := -4) hx hb dX3_variableNow_242 (by decide) ?_
                      exact m_ri (C := C) hret hlk hX hS (Option.some.inj hr) dX3_variableNow_244
                    · replace hr := ie c36 hr
                      refine lv_bipush (v := 18) hx hb dX3_variableNow_237 (by decide) ?_
                      refine lv_goto (tgt := 244) hx hb dX3_variableNow_239 (by decide) ?_
                      exact m_ri (C := C) hret hlk hX hS (Option.some.inj hr) dX3_variableNow_244
                  · replace hr := ie c34 hr
                    refine lv_bipush (v := 17) hx hb dX3_variableNow_219 (by decide) ?_
                    exact m_ri (C := C) hret hlk hX hS (Option.some.inj hr) dX3_variableNow_221
              · replace hr := ie c28 hr
                refine lv_bipush (v := 16) hx hb dX3_variableNow_187 (by decide) ?_
                exact m_ri (C := C) hret hlk hX hS (Option.some.inj hr) dX3_variableNow_189
            · refine lv_if_eq (tgt := 171) hx hb dX3_variableNow_153 (by decide) (fun c24 => ?_) (fun c24 => ?_)
              · replace r22 := it c24 r22
                exact J22 _ _ _ ls ⟨(Option.some.inj r22).symm, hX, hS, hl⟩
              · replace r22 := ie c24 r22
                refine lv_aload_n hx hb dX3_variableNow_156 rfl (lv_at hl 0 rfl) ?_
                refine lv_iconst (v := 4) hx hb dX3_variableNow_157 (by decide) ?_
                refine lv_bipush (v := 108) hx hb dX3_variableNow_158 (by decide) ?_
                refine lv_bipush (v := 101) hx hb dX3_variableNow_160 (by decide) ?_
                obtain ⟨x25, e25, r22⟩ := ob r22
                refine m_cvi (As := [.int (4 : Int32), .int (108 : Int32), .int (101 : Int32)]) (rest := []) C hX hS hl.1 (cm_goesWith l G hG S (4 : Int32) (108 : Int32) (101 : Int32) e25) (cwV 3 hts (lw_V q2160 q2162 qs70 q109 q2163) rfl rfl rfl (by decide +kernel) ⟨Nat.le_of_ble_eq_true rfl, Nat.le_of_ble_eq_true rfl⟩) rfl rfl (Nat.le_of_ble_eq_true rfl) dX3_variableNow_162 (fun H locs hX hS => ?_)
                refine lv_if_eq (tgt := 171) hx hb dX3_variableNow_165 (by decide) (fun c26 => ?_) (fun c26 => ?_)
                · replace r22 := it c26 r22
                  exact J22 _ _ _ ls ⟨(Option.some.inj r22).symm, hX, hS, hl⟩
                · replace r22 := ie c26 r22
                  refine lv_bipush (v := 15) hx hb dX3_variableNow_168 (by decide) ?_
                  replace r22 := Option.some.inj r22
                  subst r22
                  replace hr := sk_r hr
                  exact m_ri (C := C) hret hlk hX hS (Option.some.inj hr) dX3_variableNow_170
          · refine lv_if_eq (tgt := 139) hx hb dX3_variableNow_118 (by decide) (fun c18 => ?_) (fun c18 => ?_)
            · replace r16 := it c18 r16
              exact J16 _ _ _ ls ⟨(Option.some.inj r16).symm, hX, hS, hl⟩
            · replace r16 := ie c18 r16
              refine lv_aload_n hx hb dX3_variableNow_121 rfl (lv_at hl 0 rfl) ?_
              refine lv_aload_n hx hb dX3_variableNow_122 rfl (lv_at hl 0 rfl) ?_
              refine m_gi (k := 30) C q1728 rfl hX dX3_variableNow_123 ?_
              refine lv_iconst (v := 4) hx hb dX3_variableNow_126 (by decide) ?_
              refine lv_iadd hx hb dX3_variableNow_127 ?_
              obtain ⟨x19, e19, r16⟩ := ob r16
              refine m_cvi (As := [.int ((gI S 30) + (4 : Int32))]) (rest := []) C hX hS hl.1 (cm_look l G hG S ((gI S 30) + (4 : Int32)) e19) (cwV 1 hts (lw_V q2142 q2144 qs66 q109 q2145) rfl rfl rfl (by decide +kernel) ⟨Nat.le_of_ble_eq_true rfl, Nat.le_of_ble_eq_true rfl⟩) rfl rfl (Nat.le_of_ble_eq_true rfl) dX3_variableNow_128 (fun H locs hX hS => ?_)
              refine lv_bipush (v := 101) hx hb dX3_variableNow_131 (by decide) ?_
              refine lv_icmp_ne (tgt := 139) hx hb dX3_variableNow_133 (by decide) (fun c20 => ?_) (fun c20 => ?_)
              · replace r16 := ie c20 r16
                exact J16 _ _ _ ls ⟨(Option.some.inj r16).symm, hX, hS, hl⟩
              · replace r16 := it c20 r16
                refine lv_bipush (v := 14) hx hb dX3_variableNow_136 (by decide) ?_
                replace r16 := Option.some.inj r16
                subst r16
                replace hr := sk_r hr
                exact m_ri (C := C) hret hlk hX hS (Option.some.inj hr) dX3_variableNow_138
        · refine lv_if_eq (tgt := 105) hx hb dX3_variableNow_71 (by decide) (fun c10 => ?_) (fun c10 => ?_)
          · replace r8 := it c10 r8
            exact J8 _ _ _ ls ⟨(Option.some.inj r8).symm, hX, hS, hl⟩
          · replace r8 := ie c10 r8
            refine lv_aload_n hx hb dX3_variableNow_74 rfl (lv_at hl 0 rfl) ?_
            refine lv_iconst (v := 4) hx hb dX3_variableNow_75 (by decide) ?_
            refine lv_bipush (v := 116) hx hb dX3_variableNow_76 (by decide) ?_
            refine lv_bipush (v := 101) hx hb dX3_variableNow_78 (by decide) ?_
            obtain ⟨x11, e11, r8⟩ := ob r8
            refine m_cvi (As := [.int (4 : Int32), .int (116 : Int32), .int (101 : Int32)]) (rest := []) C hX hS hl.1 (cm_goesWith l G hG S (4 : Int32) (116 : Int32) (101 : Int32) e11) (cwV 3 hts (lw_V q2160 q2162 qs70 q109 q2163) rfl rfl rfl (by decide +kernel) ⟨Nat.le_of_ble_eq_true rfl, Nat.le_of_ble_eq_true rfl⟩) rfl rfl (Nat.le_of_ble_eq_true rfl) dX3_variableNow_80 (fun H locs hX hS => ?_)
            refine lv_if_eq (tgt := 105) hx hb dX3_variableNow_83 (by decide) (fun c12 => ?_) (fun c12 => ?_)
            · replace r8 := it c12 r8
              exact J8 _ _ _ ls ⟨(Option.some.inj r8).symm, hX, hS, hl⟩
            · replace r8 := ie c12 r8
              refine lv_aload_n hx hb dX3_variableNow_86 rfl (lv_at hl 0 rfl) ?_
              refine lv_aload_n hx hb dX3_variableNow_87 rfl (lv_at hl 0 rfl) ?_
              refine m_gi (k := 30) C q1728 rfl hX dX3_variableNow_88 ?_
              refine lv_bipush (v := 6) hx hb dX3_variableNow_91 (by decide) ?_
              refine lv_iadd hx hb dX3_variableNow_93 ?_
              obtain ⟨x13, e13, r8⟩ := ob r8
              refine m_cvi (As := [.int ((gI S 30) + (6 : Int32))]) (rest := []) C hX hS hl.1 (cm_look l G hG S ((gI S 30) + (6 : Int32)) e13) (cwV 1 hts (lw_V q2142 q2144 qs66 q109 q2145) rfl rfl rfl (by decide +kernel) ⟨Nat.le_of_ble_eq_true rfl, Nat.le_of_ble_eq_true rfl⟩) rfl rfl (Nat.le_of_ble_eq_true rfl) dX3_variableNow_94 (fun H locs hX hS => ?_)
              refine lv_bipush (v := 114) hx hb dX3_variableNow_97 (by decide) ?_
              refine lv_icmp_ne (tgt := 105) hx hb dX3_variableNow_99 (by decide) (fun c14 => ?_) (fun c14 => ?_)
              · replace r8 := ie c14 r8
                exact J8 _ _ _ ls ⟨(Option.some.inj r8).symm, hX, hS, hl⟩
              · replace r8 := it c14 r8
                refine lv_bipush (v := 13) hx hb dX3_variableNow_102 (by decide) ?_
                replace r8 := Option.some.inj r8
                subst r8
                replace hr := sk_r hr
                exact m_ri (C := C) hret hlk hX hS (Option.some.inj hr) dX3_variableNow_104
      · replace hr := ie c6 hr
        refine lv_bipush (v := 12) hx hb dX3_variableNow_54 (by decide) ?_
        exact m_ri (C := C) hret hlk hX hS (Option.some.inj hr) dX3_variableNow_56
    · replace hr := ie c4 hr
      refine lv_bipush (v := 11) hx hb dX3_variableNow_35 (by decide) ?_
      exact m_ri (C := C) hret hlk hX hS (Option.some.inj hr) dX3_variableNow_37
  · replace hr := ie c2 hr
    refine lv_bipush (v := 10) hx hb dX3_variableNow_16 (by decide) ?_
    exact m_ri (C := C) hret hlk hX hS (Option.some.inj hr) dX3_variableNow_18

def fm_nameNow (S : mS) : Option Int32 :=
  (fm_is S (3 : Int32) (98 : Int32) (97 : Int32) (114 : Int32) (0 : Int32)).bind fun x1 =>
  (if x1 = 0 then
  (fm_is S (3 : Int32) (112 : Int32) (97 : Int32) (121 : Int32) (0 : Int32)).bind fun x3 =>
  (if x3 = 0 then
  (fm_is S (3 : Int32) (97 : Int32) (115 : Int32) (107 : Int32) (0 : Int32)).bind fun x5 =>
  (if x5 = 0 then
  (fm_is S (4 : Int32) (98 : Int32) (97 : Int32) (99 : Int32) (107 : Int32)).bind fun x7 =>
  (if x7 = 0 then
  (fm_is S (2 : Int32) (111 : Int32) (114 : Int32) (0 : Int32) (0 : Int32)).bind fun x9 =>
  (if x9 = 0 then
  (fm_is S (3 : Int32) (97 : Int32) (110 : Int32) (100 : Int32) (0 : Int32)).bind fun x11 =>
  (if x11 = 0 then
  (fm_is S (3 : Int32) (110 : Int32) (111 : Int32) (116 : Int32) (0 : Int32)).bind fun x13 =>
  (if x13 = 0 then
  (fm_variableNow S).bind fun x15 =>
  some x15
  else
  some (6 : Int32))
  else
  some (5 : Int32))
  else
  some (4 : Int32))
  else
  some (3 : Int32))
  else
  some (2 : Int32))
  else
  some (1 : Int32))
  else
  some (0 : Int32))
set_option maxHeartbeats 4000000 in
set_option maxRecDepth 100000 in
theorem cm_nameNow (l : Launch) (G : mGh) (hG : mOk G) (S : mS)  {r : Int32} (hr : fm_nameNow S = some r) : Met l yX3_nameNow (ws_ yX3_nameNow cX3_nameNow 1 (some .int)) ({ frames := 3, cells := 0, slots := 0, locals := 66 } : Room) (mPc G [] S) (mQi G r S) 0 0 (zA G) := by
  refine m_met cX3_nameNow (by decide) rfl hG (Nat.le_of_ble_eq_true rfl) (fun p e s m args below meth c C hret hlk ls hX hl => ?_)
  have hx := C.1.1
  have hb := C.1.2.1
  have hown := C.1.2.2.2.1
  have hts := C.1.2.2.2.2
  have hS : va_S (zA G) s.heap s.heap [] := va_S.rf
  have hl : lv_has ls 1 [(0, .ref (zh G))] := hl
  unfold fm_nameNow at hr
  refine lv_aload_n hx hb dX3_nameNow_0 rfl (lv_at hl 0 rfl) ?_
  refine lv_iconst (v := 3) hx hb dX3_nameNow_1 (by decide) ?_
  refine lv_bipush (v := 98) hx hb dX3_nameNow_2 (by decide) ?_
  refine lv_bipush (v := 97) hx hb dX3_nameNow_4 (by decide) ?_
  refine lv_bipush (v := 114) hx hb dX3_nameNow_6 (by decide) ?_
  refine lv_iconst (v := 0) hx hb dX3_nameNow_8 (by decide) ?_
  obtain ⟨x1, e1, hr⟩ := ob hr
  refine m_cvi (As := [.int (3 : Int32), .int (98 : Int32), .int (97 : Int32), .int (114 : Int32), .int (0 : Int32)]) (rest := []) C hX hS hl.1 (cm_is l G hG S (3 : Int32) (98 : Int32) (97 : Int32) (114 : Int32) (0 : Int32) e1) (cwV 5 hts (lw_V q2152 q2154 qs68 q109 q2155) rfl rfl rfl (by decide +kernel) ⟨Nat.le_of_ble_eq_true rfl, Nat.le_of_ble_eq_true rfl⟩) rfl rfl (Nat.le_of_ble_eq_true rfl) dX3_nameNow_9 (fun H locs hX hS => ?_)
  refine lv_if_eq (tgt := 17) hx hb dX3_nameNow_12 (by decide) (fun c2 => ?_) (fun c2 => ?_)
  · replace hr := it c2 hr
    refine lv_aload_n hx hb dX3_nameNow_17 rfl (lv_at hl 0 rfl) ?_
    refine lv_iconst (v := 3) hx hb dX3_nameNow_18 (by decide) ?_
    refine lv_bipush (v := 112) hx hb dX3_nameNow_19 (by decide) ?_
    refine lv_bipush (v := 97) hx hb dX3_nameNow_21 (by decide) ?_
    refine lv_bipush (v := 121) hx hb dX3_nameNow_23 (by decide) ?_
    refine lv_iconst (v := 0) hx hb dX3_nameNow_25 (by decide) ?_
    obtain ⟨x3, e3, hr⟩ := ob hr
    refine m_cvi (As := [.int (3 : Int32), .int (112 : Int32), .int (97 : Int32), .int (121 : Int32), .int (0 : Int32)]) (rest := []) C hX hS hl.1 (cm_is l G hG S (3 : Int32) (112 : Int32) (97 : Int32) (121 : Int32) (0 : Int32) e3) (cwV 5 hts (lw_V q2152 q2154 qs68 q109 q2155) rfl rfl rfl (by decide +kernel) ⟨Nat.le_of_ble_eq_true rfl, Nat.le_of_ble_eq_true rfl⟩) rfl rfl (Nat.le_of_ble_eq_true rfl) dX3_nameNow_26 (fun H locs hX hS => ?_)
    refine lv_if_eq (tgt := 34) hx hb dX3_nameNow_29 (by decide) (fun c4 => ?_) (fun c4 => ?_)
    · replace hr := it c4 hr
      refine lv_aload_n hx hb dX3_nameNow_34 rfl (lv_at hl 0 rfl) ?_
      refine lv_iconst (v := 3) hx hb dX3_nameNow_35 (by decide) ?_
      refine lv_bipush (v := 97) hx hb dX3_nameNow_36 (by decide) ?_
      refine lv_bipush (v := 115) hx hb dX3_nameNow_38 (by decide) ?_
      refine lv_bipush (v := 107) hx hb dX3_nameNow_40 (by decide) ?_
      refine lv_iconst (v := 0) hx hb dX3_nameNow_42 (by decide) ?_
      obtain ⟨x5, e5, hr⟩ := ob hr
      refine m_cvi (As := [.int (3 : Int32), .int (97 : Int32), .int (115 : Int32), .int (107 : Int32), .int (0 : Int32)]) (rest := []) C hX hS hl.1 (cm_is l G hG S (3 : Int32) (97 : Int32) (115 : Int32) (107 : Int32) (0 : Int32) e5) (cwV 5 hts (lw_V q2152 q2154 qs68 q109 q2155) rfl rfl rfl (by decide +kernel) ⟨Nat.le_of_ble_eq_true rfl, Nat.le_of_ble_eq_true rfl⟩) rfl rfl (Nat.le_of_ble_eq_true rfl) dX3_nameNow_43 (fun H locs hX hS => ?_)
      refine lv_if_eq (tgt := 51) hx hb dX3_nameNow_46 (by decide) (fun c6 => ?_) (fun c6 => ?_)
      · replace hr := it c6 hr
        refine lv_aload_n hx hb dX3_nameNow_51 rfl (lv_at hl 0 rfl) ?_
        refine lv_iconst (v := 4) hx hb dX3_nameNow_52 (by decide) ?_
        refine lv_bipush (v := 98) hx hb dX3_nameNow_53 (by decide) ?_
        refine lv_bipush (v := 97) hx hb dX3_nameNow_55 (by decide) ?_
        refine lv_bipush (v := 99) hx hb dX3_nameNow_57 (by decide) ?_
        refine lv_bipush (v := 107) hx hb dX3_nameNow_59 (by decide) ?_
        obtain ⟨x7, e7, hr⟩ := ob hr
        refine m_cvi (As := [.int (4 : Int32), .int (98 : Int32), .int (97 : Int32), .int (99 : Int32), .int (107 : Int32)]) (rest := []) C hX hS hl.1 (cm_is l G hG S (4 : Int32) (98 : Int32) (97 : Int32) (99 : Int32) (107 : Int32) e7) (cwV 5 hts (lw_V q2152 q2154 qs68 q109 q2155) rfl rfl rfl (by decide +kernel) ⟨Nat.le_of_ble_eq_true rfl, Nat.le_of_ble_eq_true rfl⟩) rfl rfl (Nat.le_of_ble_eq_true rfl) dX3_nameNow_61 (fun H locs hX hS => ?_)
        refine lv_if_eq (tgt := 69) hx hb dX3_nameNow_64 (by decide) (fun c8 => ?_) (fun c8 => ?_)
        · replace hr := it c8 hr
          refine lv_aload_n hx hb dX3_nameNow_69 rfl (lv_at hl 0 rfl) ?_
          refine lv_iconst (v := 2) hx hb dX3_nameNow_70 (by decide) ?_
          refine lv_bipush (v := 111) hx hb dX3_nameNow_71 (by decide) ?_
          refine lv_bipush (v := 114) hx hb dX3_nameNow_73 (by decide) ?_
          refine lv_iconst (v := 0) hx hb dX3_nameNow_75 (by decide) ?_
          refine lv_iconst (v := 0) hx hb dX3_nameNow_76 (by decide) ?_
          obtain ⟨x9, e9, hr⟩ := ob hr
          refine m_cvi (As := [.int (2 : Int32), .int (111 : Int32), .int (114 : Int32), .int (0 : Int32), .int (0 : Int32)]) (rest := []) C hX hS hl.1 (cm_is l G hG S (2 : Int32) (111 : Int32) (114 : Int32) (0 : Int32) (0 : Int32) e9) (cwV 5 hts (lw_V q2152 q2154 qs68 q109 q2155) rfl rfl rfl (by decide +kernel) ⟨Nat.le_of_ble_eq_true rfl, Nat.le_of_ble_eq_true rfl⟩) rfl rfl (Nat.le_of_ble_eq_true rfl) dX3_nameNow_77 (fun H locs hX hS => ?_)
          refine lv_if_eq (tgt := 85) hx hb dX3_nameNow_80 (by decide) (fun c10 => ?_) (fun c10 => ?_)
          · replace hr := it c10 hr
            refine lv_aload_n hx hb dX3_nameNow_85 rfl (lv_at hl 0 rfl) ?_
            refine lv_iconst (v := 3) hx hb dX3_nameNow_86 (by decide) ?_
            refine lv_bipush (v := 97) hx hb dX3_nameNow_87 (by decide) ?_
            refine lv_bipush (v := 110) hx hb dX3_nameNow_89 (by decide) ?_
            refine lv_bipush (v := 100) hx hb dX3_nameNow_91 (by decide) ?_
            refine lv_iconst (v := 0) hx hb dX3_nameNow_93 (by decide) ?_
            obtain ⟨x11, e11, hr⟩ := ob hr
            refine m_cvi (As := [.int (3 : Int32), .int (97 : Int32), .int (110 : Int32), .int (100 : Int32), .int (0 : Int32)]) (rest := []) C hX hS hl.1 (cm_is l G hG S (3 : Int32) (97 : Int32) (110 : Int32) (100 : Int32) (0 : Int32) e11) (cwV 5 hts (lw_V q2152 q2154 qs68 q109 q2155) rfl rfl rfl (by decide +kernel) ⟨Nat.le_of_ble_eq_true rfl, Nat.le_of_ble_eq_true rfl⟩) rfl rfl (Nat.le_of_ble_eq_true rfl) dX3_nameNow_94 (fun H locs hX hS => ?_)
            refine lv_if_eq (tgt := 102) hx hb dX3_nameNow_97 (by decide) (fun c12 => ?_) (fun c12 => ?_)
            · replace hr := it c12 hr
              refine lv_aload_n hx hb dX3_nameNow_102 rfl (lv_at hl 0 rfl) ?_
              refine lv_iconst (v := 3) hx hb dX3_nameNow_103 (by decide) ?_
              refine lv_bipush (v := 110) hx hb dX3_nameNow_104 (by decide) ?_
              refine lv_bipush (v := 111) hx hb dX3_nameNow_106 (by decide) ?_
              refine lv_bipush (v := 116) hx hb dX3_nameNow_108 (by decide) ?_
              refine lv_iconst (v := 0) hx hb dX3_nameNow_110 (by decide) ?_
              obtain ⟨x13, e13, hr⟩ := ob hr
              refine m_cvi (As := [.int (3 : Int32), .int (110 : Int32), .int (111 : Int32), .int (116 : Int32), .int (0 : Int32)]) (rest := []) C hX hS hl.1 (cm_is l G hG S (3 : Int32) (110 : Int32) (111 : Int32) (116 : Int32) (0 : Int32) e13) (cwV 5 hts (lw_V q2152 q2154 qs68 q109 q2155) rfl rfl rfl (by decide +kernel) ⟨Nat.le_of_ble_eq_true rfl, Nat.le_of_ble_eq_true rfl⟩) rfl rfl (Nat.le_of_ble_eq_true rfl) dX3_nameNow_111 (fun H locs hX hS => ?_)
              refine lv_if_eq (tgt := 120) hx hb dX3_nameNow_114 (by decide) (fun c14 => ?_) (fun c14 => ?_)
              · replace hr := it c14 hr
                refine lv_aload_n hx hb dX3_nameNow_120 rfl (lv_at hl 0 rfl) ?_
                obtain ⟨x15, e15, hr⟩ := ob hr
                refine m_cvi (As := []) (rest := []) C hX hS hl.1 (cm_variableNow l G hG S  e15) (cwV 0 hts (lw_V q2156 q2158 qs69 q109 q2159) rfl rfl rfl (by decide +kernel) ⟨Nat.le_of_ble_eq_true rfl, Nat.le_of_ble_eq_true rfl⟩) rfl rfl (Nat.le_of_ble_eq_true rfl) dX3_nameNow_121 (fun H locs hX hS => ?_)
                exact m_ri (C := C) hret hlk hX hS (Option.some.inj hr) dX3_nameNow_124
              · replace hr := ie c14 hr
                refine lv_bipush (v := 6) hx hb dX3_nameNow_117 (by decide) ?_
                exact m_ri (C := C) hret hlk hX hS (Option.some.inj hr) dX3_nameNow_119
            · replace hr := ie c12 hr
              refine lv_iconst (v := 5) hx hb dX3_nameNow_100 (by decide) ?_
              exact m_ri (C := C) hret hlk hX hS (Option.some.inj hr) dX3_nameNow_101
          · replace hr := ie c10 hr
            refine lv_iconst (v := 4) hx hb dX3_nameNow_83 (by decide) ?_
            exact m_ri (C := C) hret hlk hX hS (Option.some.inj hr) dX3_nameNow_84
        · replace hr := ie c8 hr
          refine lv_iconst (v := 3) hx hb dX3_nameNow_67 (by decide) ?_
          exact m_ri (C := C) hret hlk hX hS (Option.some.inj hr) dX3_nameNow_68
      · replace hr := ie c6 hr
        refine lv_iconst (v := 2) hx hb dX3_nameNow_49 (by decide) ?_
        exact m_ri (C := C) hret hlk hX hS (Option.some.inj hr) dX3_nameNow_50
    · replace hr := ie c4 hr
      refine lv_iconst (v := 1) hx hb dX3_nameNow_32 (by decide) ?_
      exact m_ri (C := C) hret hlk hX hS (Option.some.inj hr) dX3_nameNow_33
  · replace hr := ie c2 hr
    refine lv_iconst (v := 0) hx hb dX3_nameNow_15 (by decide) ?_
    exact m_ri (C := C) hret hlk hX hS (Option.some.inj hr) dX3_nameNow_16

def fm_wants (S : mS) (a1 : Int32) (a2 : Int32) : Option mS :=
  (if a1 = 0 then
  (if (gI S 33) = 0 then
  (pI S 33 a2).bind fun x3 =>
  (pI x3 34 (gI x3 30)).bind fun x4 =>
  some x4
  else
  some S)
  else
  some S)
set_option maxHeartbeats 4000000 in
set_option maxRecDepth 100000 in
theorem cm_wants (l : Launch) (G : mGh) (hG : mOk G) (S : mS) (a1 : Int32) (a2 : Int32) {S' : mS} (hr : fm_wants S a1 a2 = some S') : Met l yX3_wants (ws_ yX3_wants cX3_wants 3 none) ({ frames := 0, cells := 0, slots := 0, locals := 0 } : Room) (mPc G [.int a1, .int a2] S) (mQv G S') 0 0 (zA G) := by
  refine m_met cX3_wants (by decide) rfl hG (Nat.le_of_ble_eq_true rfl) (fun p e s m args below meth c C hret hlk ls hX hl => ?_)
  have hx := C.1.1
  have hb := C.1.2.1
  have hown := C.1.2.2.2.1
  have hts := C.1.2.2.2.2
  have hS : va_S (zA G) s.heap s.heap [] := va_S.rf
  have hl : lv_has ls 3 [(0, .ref (zh G)), (1, .int a1), (2, .int a2)] := hl
  unfold fm_wants at hr
  refine lv_iload_n hx hb dX3_wants_0 rfl (lv_at hl 1 rfl) ?_
  refine lv_if_ne (tgt := 24) hx hb dX3_wants_1 (by decide) (fun c1 => ?_) (fun c1 => ?_)
  · replace hr := ie c1 hr
    exact m_rvw (C := C) hret hlk hX hS (Option.some.inj hr) dX3_wants_24
  · replace hr := it c1 hr
    refine lv_aload_n hx hb dX3_wants_4 rfl (lv_at hl 0 rfl) ?_
    refine m_gi (k := 33) C q1731 rfl hX dX3_wants_5 ?_
    refine lv_if_ne (tgt := 24) hx hb dX3_wants_8 (by decide) (fun c2 => ?_) (fun c2 => ?_)
    · replace hr := ie c2 hr
      exact m_rvw (C := C) hret hlk hX hS (Option.some.inj hr) dX3_wants_24
    · replace hr := it c2 hr
      refine lv_aload_n hx hb dX3_wants_11 rfl (lv_at hl 0 rfl) ?_
      refine lv_iload_n hx hb dX3_wants_12 rfl (lv_at hl 2 rfl) ?_
      obtain ⟨x3, e3, hr⟩ := ob hr
      refine m_pi (k := 33) C q1731 rfl hX hS e3 dX3_wants_13 (fun H locs hX hS => ?_)
      refine lv_aload_n hx hb dX3_wants_16 rfl (lv_at hl 0 rfl) ?_
      refine lv_aload_n hx hb dX3_wants_17 rfl (lv_at hl 0 rfl) ?_
      refine m_gi (k := 30) C q1728 rfl hX dX3_wants_18 ?_
      obtain ⟨x4, e4, hr⟩ := ob hr
      refine m_pi (k := 34) C q1732 rfl hX hS e4 dX3_wants_21 (fun H locs hX hS => ?_)
      exact m_rvw (C := C) hret hlk hX hS (Option.some.inj hr) dX3_wants_24

def fm_next_k247  (z48 : mS) : Option (mS) :=
  (if (4 : Int32) < ((gI z48 29) - (gI z48 30)) then
  (fm_wants z48 (0 : Int32) (1 : Int32)).bind fun x60 =>
  some x60
  else
  (fm_wants z48 (1 : Int32) (1 : Int32)).bind fun x61 =>
  some x61)
def fm_next_l170  (t46 : mS) : Option ((mS) ⊕ (mS)) :=
  (fm_look t46 (gI t46 29)).bind fun x49 =>
  (if (fm_in x49.toInt64 (48 : Int64) (57 : Int64)) = 0 then
  some (.inr t46)
  else
  (((if (4 : Int32) ≤ ((gI t46 29) - (gI t46 30)) then
  some (gI t46 32)
  else
  (fm_look t46 (gI t46 29)).bind fun x55 =>
  some ((((10 : Int32) * (gI t46 32)) + x55) - (48 : Int32))) : Option (Int32))).bind (fun x51 =>
  (pI t46 32 x51).bind fun x57 =>
  (pI x57 29 ((gI x57 29) + (1 : Int32))).bind fun x58 =>
  some (.inl x58)))
def fm_next_k116  (z65 : mS) : Option (mS) :=
  (fm_nameNow z65).bind fun x69 =>
  (pI z65 32 x69).bind fun x70 =>
  (if (gI x70 32) = (-4 : Int32) then
  (fm_wants x70 (0 : Int32) (1 : Int32)).bind fun x72 =>
  some x72
  else
  (fm_wants x70 (1 : Int32) (1 : Int32)).bind fun x73 =>
  some x73)
def fm_next_l82  (t63 : mS) : Option ((mS) ⊕ (mS)) :=
  (fm_look t63 (gI t63 29)).bind fun x66 =>
  (if (fm_in x66.toInt64 (97 : Int64) (122 : Int64)) = 0 then
  some (.inr t63)
  else
  (pI t63 29 ((gI t63 29) + (1 : Int32))).bind fun x68 =>
  some (.inl x68))
def fm_next_k34  (z4 : mS) : Option (mS) :=
  (pI z4 30 (gI z4 29)).bind fun x8 =>
  (fm_look x8 (gI x8 29)).bind fun x9 =>
  (if 0 ≤ x9 then
  (if (fm_in x9.toInt64 (97 : Int64) (122 : Int64)) = 0 then
  (if (fm_in x9.toInt64 (48 : Int64) (57 : Int64)) = 0 then
  (pI x8 31 (3 : Int32)).bind fun x13 =>
  (pI x13 32 x9).bind fun x14 =>
  (if x9 = (40 : Int32) then
  (fm_wants x14 (1 : Int32) (1 : Int32)).bind fun x16 =>
  (pI x16 29 ((gI x16 29) + (1 : Int32))).bind fun x17 =>
  some x17
  else
  (if x9 = (41 : Int32) then
  (fm_wants x14 (1 : Int32) (1 : Int32)).bind fun x19 =>
  (pI x19 29 ((gI x19 29) + (1 : Int32))).bind fun x20 =>
  some x20
  else
  (if x9 = (43 : Int32) then
  (fm_wants x14 (1 : Int32) (1 : Int32)).bind fun x22 =>
  (pI x22 29 ((gI x22 29) + (1 : Int32))).bind fun x23 =>
  some x23
  else
  (if x9 = (45 : Int32) then
  (fm_wants x14 (1 : Int32) (1 : Int32)).bind fun x25 =>
  (pI x25 29 ((gI x25 29) + (1 : Int32))).bind fun x26 =>
  some x26
  else
  (if x9 = (42 : Int32) then
  (fm_wants x14 (1 : Int32) (1 : Int32)).bind fun x28 =>
  (pI x28 29 ((gI x28 29) + (1 : Int32))).bind fun x29 =>
  some x29
  else
  (if x9 = (60 : Int32) then
  (fm_wants x14 (1 : Int32) (1 : Int32)).bind fun x31 =>
  (pI x31 29 ((gI x31 29) + (1 : Int32))).bind fun x32 =>
  some x32
  else
  (if x9 = (62 : Int32) then
  (fm_wants x14 (1 : Int32) (1 : Int32)).bind fun x34 =>
  (pI x34 29 ((gI x34 29) + (1 : Int32))).bind fun x35 =>
  some x35
  else
  (if x9 = (61 : Int32) then
  (fm_wants x14 (1 : Int32) (1 : Int32)).bind fun x37 =>
  (pI x37 29 ((gI x37 29) + (1 : Int32))).bind fun x38 =>
  some x38
  else
  (if x9 = (59 : Int32) then
  (fm_wants x14 (1 : Int32) (1 : Int32)).bind fun x42 =>
  (pI x42 29 ((gI x42 29) + (1 : Int32))).bind fun x43 =>
  some x43
  else
  (fm_wants x14 (0 : Int32) (1 : Int32)).bind fun x40 =>
  (pI x40 29 ((gI x40 29) + (1 : Int32))).bind fun x41 =>
  some x41)))))))))
  else
  (pI x8 31 (2 : Int32)).bind fun x44 =>
  (pI x44 32 (0 : Int32)).bind fun x45 =>
  (loopO fm_next_l170 1000000 x45).bind (fun z48 => fm_next_k247 z48))
  else
  (pI x8 31 (1 : Int32)).bind fun x62 =>
  (loopO fm_next_l82 1000000 x62).bind (fun z65 => fm_next_k116 z65))
  else
  (pI x8 31 (0 : Int32)).bind fun x74 =>
  some x74)
def fm_next_l8  (t2 : mS) : Option ((mS) ⊕ (mS)) :=
  (fm_look t2 (gI t2 29)).bind fun x5 =>
  (if x5 = (32 : Int32) then
  (pI t2 29 ((gI t2 29) + (1 : Int32))).bind fun x7 =>
  some (.inl x7)
  else
  some (.inr t2))
def fm_next (S : mS) : Option mS :=
  (if (gI S 33) ≤ 0 then
  (loopO fm_next_l8 1000000 S).bind (fun z4 => fm_next_k34 z4)
  else
  some S)
set_option maxHeartbeats 4000000 in
set_option maxRecDepth 100000 in
theorem cm_next (l : Launch) (G : mGh) (hG : mOk G) (S : mS)  {S' : mS} (hr : fm_next S = some S') : Met l yX3_next (ws_ yX3_next cX3_next 2 none) ({ frames := 4, cells := 0, slots := 0, locals := 86 } : Room) (mPc G [] S) (mQv G S') 0 0 (zA G) := by
  refine m_met cX3_next (by decide) rfl hG (Nat.le_of_ble_eq_true rfl) (fun p e s m args below meth c C hret hlk ls hX hl => ?_)
  have hx := C.1.1
  have hb := C.1.2.1
  have hown := C.1.2.2.2.1
  have hts := C.1.2.2.2.2
  have hS : va_S (zA G) s.heap s.heap [] := va_S.rf
  have hl : lv_has ls 2 [(0, .ref (zh G))] := hl
  unfold fm_next at hr
  refine lv_aload_n hx hb dX3_next_0 rfl (lv_at hl 0 rfl) ?_
  refine m_gi (k := 33) C q1731 rfl hX dX3_next_1 ?_
  refine lv_if_le (tgt := 8) hx hb dX3_next_4 (by decide) (fun c1 => ?_) (fun c1 => ?_)
  · replace hr := it c1 hr
    obtain ⟨z4, e4, hr⟩ := ob hr
    refine m_join (I := fun (_ : Unit) H locs ls => mX G z4 H ∧ va_S (zA G) s.heap H locs ∧ lv_has ls 2 [(0, .ref (zh G))]) 34 (fun _ => []) (fun _ H locs ls hi => ?_) (fun J2_34 => ?_)
    · obtain ⟨hX, hS, hl⟩ := hi
      unfold fm_next_k34 at hr
      refine lv_aload_n hx hb dX3_next_34 rfl (lv_at hl 0 rfl) ?_
      refine lv_aload_n hx hb dX3_next_35 rfl (lv_at hl 0 rfl) ?_
      refine m_gi (k := 29) C q1727 rfl hX dX3_next_36 ?_
      obtain ⟨x8, e8, hr⟩ := ob hr
      refine m_pi (k := 30) C q1728 rfl hX hS e8 dX3_next_39 (fun H locs hX hS => ?_)
      refine lv_aload_n hx hb dX3_next_42 rfl (lv_at hl 0 rfl) ?_
      refine lv_aload_n hx hb dX3_next_43 rfl (lv_at hl 0 rfl) ?_
      refine m_gi (k := 29) C q1727 rfl hX dX3_next_44 ?_
      obtain ⟨x9, e9, hr⟩ := ob hr
      refine m_cvi (As := [.int (gI x8 29)]) (rest := []) C hX hS hl.1 (cm_look l G hG x8 (gI x8 29) e9) (cwV 1 hts (lw_V q2142 q2144 qs66 q109 q2145) rfl rfl rfl (by decide +kernel) ⟨Nat.le_of_ble_eq_true rfl, Nat.le_of_ble_eq_true rfl⟩) rfl rfl (Nat.le_of_ble_eq_true rfl) dX3_next_47 (fun H locs hX hS => ?_)
      refine lv_istore_n (lv' := [(1, .int x9), (0, .ref (zh G))]) hx hb dX3_next_50 rfl hl (by decide) rfl (fun ls hl => ?_)
      refine lv_iload_n hx hb dX3_next_51 rfl (lv_at hl 0 rfl) ?_
      refine lv_if_ge (tgt := 63) hx hb dX3_next_52 (by decide) (fun c10 => ?_) (fun c10 => ?_)
      · replace hr := it c10 hr
        refine lv_iload_n hx hb dX3_next_63 rfl (lv_at hl 0 rfl) ?_
        refine lv_i2l (v := x9.toInt64) hx hb dX3_next_64 rfl ?_
        refine lv_ldc2 hx hb hown (hts _ q2146) dX3_next_65 ?_
        refine lv_ldc2 hx hb hown (hts _ q2147) dX3_next_68 ?_
        refine m_csi (As := [.long x9.toInt64, .long (97 : Int64), .long (122 : Int64)]) (rest := []) C hX hS hl.1 (cm_in l x9.toInt64 (97 : Int64) (122 : Int64) rfl) (va_cwS 3 hts (lw_S q1974 q1975 q109 q1976) rfl rfl rfl (by decide +kernel) ⟨Nat.le_of_ble_eq_true rfl, Nat.le_of_ble_eq_true rfl⟩) rfl rfl (Nat.le_of_ble_eq_true rfl) dX3_next_71 (fun H locs hX hS => ?_)
        refine lv_if_eq (tgt := 146) hx hb dX3_next_74 (by decide) (fun c11 => ?_) (fun c11 => ?_)
        · replace hr := it c11 hr
          refine lv_iload_n hx hb dX3_next_146 rfl (lv_at hl 0 rfl) ?_
          refine lv_i2l (v := x9.toInt64) hx hb dX3_next_147 rfl ?_
          refine lv_ldc2 hx hb hown (hts _ q2168) dX3_next_148 ?_
          refine lv_ldc2 hx hb hown (hts _ q2169) dX3_next_151 ?_
          refine m_csi (As := [.long x9.toInt64, .long (48 : Int64), .long (57 : Int64)]) (rest := []) C hX hS hl.1 (cm_in l x9.toInt64 (48 : Int64) (57 : Int64) rfl) (va_cwS 3 hts (lw_S q1974 q1975 q109 q1976) rfl rfl rfl (by decide +kernel) ⟨Nat.le_of_ble_eq_true rfl, Nat.le_of_ble_eq_true rfl⟩) rfl rfl (Nat.le_of_ble_eq_true rfl) dX3_next_154 (fun H locs hX hS => ?_)
          refine lv_if_eq (tgt := 273) hx hb dX3_next_157 (by decide) (fun c12 => ?_) (fun c12 => ?_)
          · replace hr := it c12 hr
            refine lv_aload_n hx hb dX3_next_273 rfl (lv_at hl 1 rfl) ?_
            refine lv_iconst (v := 3) hx hb dX3_next_274 (by decide) ?_
            obtain ⟨x13, e13, hr⟩ := ob hr
            refine m_pi (k := 31) C q1729 rfl hX hS e13 dX3_next_275 (fun H locs hX hS => ?_)
            refine lv_aload_n hx hb dX3_next_278 rfl (lv_at hl 1 rfl) ?_
            refine lv_iload_n hx hb dX3_next_279 rfl (lv_at hl 0 rfl) ?_
            obtain ⟨x14, e14, hr⟩ := ob hr
            refine m_pi (k := 32) C q1730 rfl hX hS e14 dX3_next_280 (fun H locs hX hS => ?_)
            refine lv_aload_n hx hb dX3_next_283 rfl (lv_at hl 1 rfl) ?_
            refine lv_iload_n hx hb dX3_next_284 rfl (lv_at hl 0 rfl) ?_
            refine lv_bipush (v := 40) hx hb dX3_next_285 (by decide) ?_
            refine lv_icmp_eq (tgt := 338) hx hb dX3_next_287 (by decide) (fun c15 => ?_) (fun c15 => ?_)
            · replace hr := it c15 hr
              refine lv_iconst (v := 1) hx hb dX3_next_338 (by decide) ?_
              refine lv_goto (tgt := 343) hx hb dX3_next_339 (by decide) ?_
              refine lv_iconst (v := 1) hx hb dX3_next_343 (by decide) ?_
              obtain ⟨x16, e16, hr⟩ := ob hr
              refine m_cvv (As := [.int (1 : Int32), .int (1 : Int32)]) (rest := []) C hX hS hl.1 (cm_wants l G hG x14 (1 : Int32) (1 : Int32) e16) (cwV 2 hts (lw_V q2164 q2166 qs71 q109 q2167) rfl rfl rfl (by decide +kernel) ⟨Nat.le_of_ble_eq_true rfl, Nat.le_of_ble_eq_true rfl⟩) rfl rfl (Nat.le_of_ble_eq_true rfl) dX3_next_344 (fun H locs hX hS => ?_)
              refine lv_aload_n hx hb dX3_next_347 rfl (lv_at hl 1 rfl) ?_
              refine lv_dup hx hb dX3_next_348 rfl ?_
              refine m_gi (k := 29) C q1727 rfl hX dX3_next_349 ?_
              refine lv_iconst (v := 1) hx hb dX3_next_352 (by decide) ?_
              refine lv_iadd hx hb dX3_next_353 ?_
              obtain ⟨x17, e17, hr⟩ := ob hr
              refine m_pi (k := 29) C q1727 rfl hX hS e17 dX3_next_354 (fun H locs hX hS => ?_)
              exact m_rvw (C := C) hret hlk hX hS (Option.some.inj hr) dX3_next_357
            · replace hr := ie c15 hr
              refine lv_iload_n hx hb dX3_next_290 rfl (lv_at hl 0 rfl) ?_
              refine lv_bipush (v := 41) hx hb dX3_next_291 (by decide) ?_
              refine lv_icmp_eq (tgt := 338) hx hb dX3_next_293 (by decide) (fun c18 => ?_) (fun c18 => ?_)
              · replace hr := it c18 hr
                refine lv_iconst (v := 1) hx hb dX3_next_338 (by decide) ?_
                refine lv_goto (tgt := 343) hx hb dX3_next_339 (by decide) ?_
                refine lv_iconst (v := 1) hx hb dX3_next_343 (by decide) ?_
                obtain ⟨x19, e19, hr⟩ := ob hr
                refine m_cvv (As := [.int (1 : Int32), .int (1 : Int32)]) (rest := []) C hX hS hl.1 (cm_wants l G hG x14 (1 : Int32) (1 : Int32) e19) (cwV 2 hts (lw_V q2164 q2166 qs71 q109 q2167) rfl rfl rfl (by decide +kernel) ⟨Nat.le_of_ble_eq_true rfl, Nat.le_of_ble_eq_true rfl⟩) rfl rfl (Nat.le_of_ble_eq_true rfl) dX3_next_344 (fun H locs hX hS => ?_)
                refine lv_aload_n hx hb dX3_next_347 rfl (lv_at hl 1 rfl) ?_
                refine lv_dup hx hb dX3_next_348 rfl ?_
                refine m_gi (k := 29) C q1727 rfl hX dX3_next_349 ?_
                refine lv_iconst (v := 1) hx hb dX3_next_352 (by decide) ?_
                refine lv_iadd hx hb dX3_next_353 ?_
                obtain ⟨x20, e20, hr⟩ := ob hr
                refine m_pi (k := 29) C q1727 rfl hX hS e20 dX3_next_354 (fun H locs hX hS => ?_)
                exact m_rvw (C := C) hret hlk hX hS (Option.some.inj hr) dX3_next_357
              · replace hr := ie c18 hr
                refine lv_iload_n hx hb dX3_next_296 rfl (lv_at hl 0 rfl) ?_
                refine lv_bipush (v := 43) hx hb dX3_next_297 (by decide) ?_
                refine lv_icmp_eq (tgt := 338) hx hb dX3_next_299 (by decide) (fun c21 => ?_) (fun c21 => ?_)
                · replace hr := it c21 hr
                  refine lv_iconst (v := 1) hx hb dX3_next_338 (by decide) ?_
                  refine lv_goto (tgt := 343) hx hb dX3_next_339 (by decide) ?_
                  refine lv_iconst (v := 1) hx hb dX3_next_343 (by decide) ?_
                  obtain ⟨x22, e22, hr⟩ := ob hr
                  refine m_cvv (As := [.int (1 : Int32), .int (1 : Int32)]) (rest := []) C hX hS hl.1 (cm_wants l G hG x14 (1 : Int32) (1 : Int32) e22) (cwV 2 hts (lw_V q2164 q2166 qs71 q109 q2167) rfl rfl rfl (by decide +kernel) ⟨Nat.le_of_ble_eq_true rfl, Nat.le_of_ble_eq_true rfl⟩) rfl rfl (Nat.le_of_ble_eq_true rfl) dX3_next_344 (fun H locs hX hS => ?_)
                  refine lv_aload_n hx hb dX3_next_347 rfl (lv_at hl 1 rfl) ?_
                  refine lv_dup hx hb dX3_next_348 rfl ?_
                  refine m_gi (k := 29) C q1727 rfl hX dX3_next_349 ?_
                  refine lv_iconst (v := 1) hx hb dX3_next_352 (by decide) ?_
                  refine lv_iadd hx hb dX3_next_353 ?_
                  obtain ⟨x23, e23, hr⟩ := ob hr
                  refine m_pi (k := 29) C q1727 rfl hX hS e23 dX3_next_354 (fun H locs hX hS => ?_)
                  exact m_rvw (C := C) hret hlk hX hS (Option.some.inj hr) dX3_next_357
                · replace hr := ie c21 hr
                  refine lv_iload_n hx hb dX3_next_302 rfl (lv_at hl 0 rfl) ?_
                  refine lv_bipush (v := 45) hx hb dX3_next_303 (by decide) ?_
                  refine lv_icmp_eq (tgt := 338) hx hb dX3_next_305 (by decide) (fun c24 => ?_) (fun c24 => ?_)
                  · replace hr := it c24 hr
                    refine lv_iconst (v := 1) hx hb dX3_next_338 (by decide) ?_
                    refine lv_goto (tgt := 343) hx hb dX3_next_339 (by decide) ?_
                    refine lv_iconst (v := 1) hx hb dX3_next_343 (by decide) ?_
                    obtain ⟨x25, e25, hr⟩ := ob hr
                    refine m_cvv (As := [.int (1 : Int32), .int (1 : Int32)]) (rest := []) C hX hS hl.1 (cm_wants l G hG x14 (1 : Int32) (1 : Int32) e25) (cwV 2 hts (lw_V q2164 q2166 qs71 q109 q2167) rfl rfl rfl (by decide +kernel) ⟨Nat.le_of_ble_eq_true rfl, Nat.le_of_ble_eq_true rfl⟩) rfl rfl (Nat.le_of_ble_eq_true rfl) dX3_next_344 (fun H locs hX hS => ?_)
                    refine lv_aload_n hx hb dX3_next_347 rfl (lv_at hl 1 rfl) ?_
                    refine lv_dup hx hb dX3_next_348 rfl ?_
                    refine m_gi (k := 29) C q1727 rfl hX dX3_next_349 ?_
                    refine lv_iconst (v := 1) hx hb dX3_next_352 (by decide) ?_
                    refine lv_iadd hx hb dX3_next_353 ?_
                    obtain ⟨x26, e26, hr⟩ := ob hr
                    refine m_pi (k := 29) C q1727 rfl hX hS e26 dX3_next_354 (fun H locs hX hS => ?_)
                    exact m_rvw (C := C) hret hlk hX hS (Option.some.inj hr) dX3_next_357
                  · replace hr := ie c24 hr
                    refine lv_iload_n hx hb dX3_next_308 rfl (lv_at hl 0 rfl) ?_
                    refine lv_bipush (v := 42) hx hb dX3_next_309 (by decide) ?_
                    refine lv_icmp_eq (tgt := 338) hx hb dX3_next_311 (by decide) (fun c27 => ?_) (fun c27 => ?_)
                    · replace hr := it c27 hr
                      refine lv_iconst (v := 1) hx hb dX3_next_338 (by decide) ?_
                      refine lv_goto (tgt := 343) hx hb dX3_next_339 (by decide) ?_
                      refine lv_iconst (v := 1) hx hb dX3_next_343 (by decide) ?_
                      obtain ⟨x28, e28, hr⟩ := ob hr
                      refine m_cvv (As := [.int (1 : Int32), .int (1 : Int32)]) (rest := []) C hX hS hl.1 (cm_wants l G hG x14 (1 : Int32) (1 : Int32) e28) (cwV 2 hts (lw_V q2164 q2166 qs71 q109 q2167) rfl rfl rfl (by decide +kernel) ⟨Nat.le_of_ble_eq_true rfl, Nat.le_of_ble_eq_true rfl⟩) rfl rfl (Nat.le_of_ble_eq_true rfl) dX3_next_344 (fun H locs hX hS => ?_)
                      refine lv_aload_n hx hb dX3_next_347 rfl (lv_at hl 1 rfl) ?_
                      refine lv_dup hx hb dX3_next_348 rfl ?_
                      refine m_gi (k := 29) C q1727 rfl hX dX3_next_349 ?_
                      refine lv_iconst (v := 1) hx hb dX3_next_352 (by decide) ?_
                      refine lv_iadd hx hb dX3_next_353 ?_
                      obtain ⟨x29, e29, hr⟩ := ob hr
                      refine m_pi (k := 29) C q1727 rfl hX hS e29 dX3_next_354 (fun H locs hX hS => ?_)
                      exact m_rvw (C := C) hret hlk hX hS (Option.some.inj hr) dX3_next_357
                    · replace hr := ie c27 hr
                      refine lv_iload_n hx hb dX3_next_314 rfl (lv_at hl 0 rfl) ?_
                      refine lv_bipush (v := 60) hx hb dX3_next_315 (by decide) ?_
                      refine lv_icmp_eq (tgt := 338) hx hb dX3_next_317 (by decide) (fun c30 => ?_) (fun c30 => ?_)
                      · replace hr := it c30 hr
                        refine lv_iconst (v := 1) hx hb dX3_next_338 (by decide) ?_
                        refine lv_goto (tgt := 343) hx hb dX3_next_339 (by decide) ?_
                        refine lv_iconst (v := 1) hx hb dX3_next_343 (by decide) ?_
                        obtain ⟨x31, e31, hr⟩ := ob hr
                        refine m_cvv (As := [.int (1 : Int32), .int (1 : Int32)]) (rest := []) C hX hS hl.1 (cm_wants l G hG x14 (1 : Int32) (1 : Int32) e31) (cwV 2 hts (lw_V q2164 q2166 qs71 q109 q2167) rfl rfl rfl (by decide +kernel) ⟨Nat.le_of_ble_eq_true rfl, Nat.le_of_ble_eq_true rfl⟩) rfl rfl (Nat.le_of_ble_eq_true rfl) dX3_next_344 (fun H locs hX hS => ?_)
                        refine lv_aload_n hx hb dX3_next_347 rfl (lv_at hl 1 rfl) ?_
                        refine lv_dup hx hb dX3_next_348 rfl ?_
                        refine m_gi (k := 29) C q1727 rfl hX dX3_next_349 ?_
                        refine lv_iconst (v := 1) hx hb dX3_next_352 (by decide) ?_
                        refine lv_iadd hx hb dX3_next_353 ?_
                        obtain ⟨x32, e32, hr⟩ := ob hr
                        refine m_pi (k := 29) C q1727 rfl hX hS e32 dX3_next_354 (fun H locs hX hS => ?_)
                        exact m_rvw (C := C) hret hlk hX hS (Option.some.inj hr) dX3_next_357
                      · replace hr := ie c30 hr
                        refine lv_iload_n hx hb dX3_next_320 rfl (lv_at hl 0 rfl) ?_
                        refine lv_bipush (v := 62) hx hb dX3_next_321 (by decide) ?_
                        refine lv_icmp_eq (tgt := 338) hx hb dX3_next_323 (by decide) (fun c33 => ?_) (fun c33 => ?_)
                        · replace hr := it c33 hr
                          refine lv_iconst (v := 1) hx hb dX3_next_338 (by decide) ?_
                          refine lv_goto (tgt := 343) hx hb dX3_next_339 (by decide) ?_
                          refine lv_iconst (v := 1) hx hb dX3_next_343 (by decide) ?_
                          obtain ⟨x34, e34, hr⟩ := ob hr
                          refine m_cvv (As := [.int (1 : Int32), .int (1 : Int32)]) (rest := []) C hX hS hl.1 (cm_wants l G hG x14 (1 : Int32) (1 : Int32) e34) (cwV 2 hts (lw_V q2164 q2166 qs71 q109 q2167) rfl rfl rfl (by decide +kernel) ⟨Nat.le_of_ble_eq_true rfl, Nat.le_of_ble_eq_true rfl⟩) rfl rfl (Nat.le_of_ble_eq_true rfl) dX3_next_344 (fun H locs hX hS => ?_)
                          refine lv_aload_n hx hb dX3_next_347 rfl (lv_at hl 1 rfl) ?_
                          refine lv_dup hx hb dX3_next_348 rfl ?_
                          refine m_gi (k := 29) C q1727 rfl hX dX3_next_349 ?_
                          refine lv_iconst (v := 1) hx hb dX3_next_352 (by decide) ?_
                          refine lv_iadd hx hb dX3_next_353 ?_
                          obtain ⟨x35, e35, hr⟩ := ob hr
                          refine m_pi (k := 29) C q1727 rfl hX hS e35 dX3_next_354 (fun H locs hX hS => ?_)
                          exact m_rvw (C := C) hret hlk hX hS (Option.some.inj hr) dX3_next_357
                        · replace hr := ie c33 hr
                          refine lv_iload_n hx hb dX3_next_326 rfl (lv_at hl 0 rfl) ?_
                          refine lv_bipush (v := 61) hx hb dX3_next_327 (by decide) ?_
                          refine lv_icmp_eq (tgt := 338) hx hb dX3_next_329 (by decide) (fun c36 => ?_) (fun c36 => ?_)
                          · replace hr := it c36 hr
                            refine lv_iconst (v := 1) hx hb dX3_next_338 (by decide) ?_
                            refine lv_goto (tgt := 343) hx hb dX3_next_339 (by decide) ?_
                            refine lv_iconst (v := 1) hx hb dX3_next_343 (by decide) ?_
                            obtain ⟨x37, e37, hr⟩ := ob hr
                            refine m_cvv (As := [.int (1 : Int32), .int (1 : Int32)]) (rest := []) C hX hS hl.1 (cm_wants l G hG x14 (1 : Int32) (1 : Int32) e37) (cwV 2 hts (lw_V q2164 q2166 qs71 q109 q2167) rfl rfl rfl (by decide +kernel) ⟨Nat.le_of_ble_eq_true rfl, Nat.le_of_ble_eq_true rfl⟩) rfl rfl (Nat.le_of_ble_eq_true rfl) dX3_next_344 (fun H locs hX hS => ?_)
                            refine lv_aload_n hx hb dX3_next_347 rfl (lv_at hl 1 rfl) ?_
                            refine lv_dup hx hb dX3_next_348 rfl ?_
                            refine m_gi (k := 29) C q1727 rfl hX dX3_next_349 ?_
                            refine lv_iconst (v := 1) hx hb dX3_next_352 (by decide) ?_
                            refine lv_iadd hx hb dX3_next_353 ?_
                            obtain ⟨x38, e38, hr⟩ := ob hr
                            refine m_pi (k := 29) C q1727 rfl hX hS e38 dX3_next_354 (fun H locs hX hS => ?_)
                            exact m_rvw (C := C) hret hlk hX hS (Option.some.inj hr) dX3_next_357
                          · replace hr := ie c36 hr
                            refine lv_iload_n hx hb dX3_next_332 rfl (lv_at hl 0 rfl) ?_
                            refine lv_bipush (v := 59) hx hb dX3_next_333 (by decide) ?_
                            refine lv_icmp_ne (tgt := 342) hx hb dX3_next_335 (by decide) (fun c39 => ?_) (fun c39 => ?_)
                            · replace hr := ie c39 hr
                              refine lv_iconst (v := 0) hx hb dX3_next_342 (by decide) ?_
                              refine lv_iconst (v := 1) hx hb dX3_next_343 (by decide) ?_
                              obtain ⟨x40, e40, hr⟩ := ob hr
                              refine m_cvv (As := [.int (0 : Int32), .int (1 : Int32)]) (rest := []) C hX hS hl.1 (cm_wants l G hG x14 (0 : Int32) (1 : Int32) e40) (cwV 2 hts (lw_V q2164 q2166 qs71 q109 q2167) rfl rfl rfl (by decide +kernel) ⟨Nat.le_of_ble_eq_true rfl, Nat.le_of_ble_eq_true rfl⟩) rfl rfl (Nat.le_of_ble_eq_true rfl) dX3_next_344 (fun H locs hX hS => ?_)
                              refine lv_aload_n hx hb dX3_next_347 rfl (lv_at hl 1 rfl) ?_
                              refine lv_dup hx hb dX3_next_348 rfl ?_
                              refine m_gi (k := 29) C q1727 rfl hX dX3_next_349 ?_
                              refine lv_iconst (v := 1) hx hb dX3_next_352 (by decide) ?_
                              refine lv_iadd hx hb dX3_next_353 ?_
                              obtain ⟨x41, e41, hr⟩ := ob hr
                              refine m_pi (k := 29) C q1727 rfl hX hS e41 dX3_next_354 (fun H locs hX hS => ?_)
                              exact m_rvw (C := C) hret hlk hX hS (Option.some.inj hr) dX3_next_357
                            · replace hr := it c39 hr
                              refine lv_iconst (v := 1) hx hb dX3_next_338 (by decide) ?_
                              refine lv_goto (tgt := 343) hx hb dX3_next_339 (by decide) ?_
                              refine lv_iconst (v := 1) hx hb dX3_next_343 (by decide) ?_
                              obtain ⟨x42, e42, hr⟩ := ob hr
                              refine m_cvv (As := [.int (1 : Int32), .int (1 : Int32)]) (rest := []) C hX hS hl.1 (cm_wants l G hG x14 (1 : Int32) (1 : Int32) e42) (cwV 2 hts (lw_V q2164 q2166 qs71 q109 q2167) rfl rfl rfl (by decide +kernel) ⟨Nat.le_of_ble_eq_true rfl, Nat.le_of_ble_eq_true rfl⟩) rfl rfl (Nat.le_of_ble_eq_true rfl) dX3_next_344 (fun H locs hX hS => ?_)
                              refine lv_aload_n hx hb dX3_next_347 rfl (lv_at hl 1 rfl) ?_
                              refine lv_dup hx hb dX3_next_348 rfl ?_
                              refine m_gi (k := 29) C q1727 rfl hX dX3_next_349 ?_
                              refine lv_iconst (v := 1) hx hb dX3_next_352 (by decide) ?_
                              refine lv_iadd hx hb dX3_next_353 ?_
                              obtain ⟨x43, e43, hr⟩ := ob hr
                              refine m_pi (k := 29) C q1727 rfl hX hS e43 dX3_next_354 (fun H locs hX hS => ?_)
                              exact m_rvw (C := C) hret hlk hX hS (Option.some.inj hr) dX3_next_357
          · replace hr := ie c12 hr
            refine lv_aload_n hx hb dX3_next_160 rfl (lv_at hl 1 rfl) ?_
            refine lv_iconst (v := 2) hx hb dX3_next_161 (by decide) ?_
            obtain ⟨x44, e44, hr⟩ := ob hr
            refine m_pi (k := 31) C q1729 rfl hX hS e44 dX3_next_162 (fun H locs hX hS => ?_)
            refine lv_aload_n hx hb dX3_next_165 rfl (lv_at hl 1 rfl) ?_
            refine lv_iconst (v := 0) hx hb dX3_next_166 (by decide) ?_
            obtain ⟨x45, e45, hr⟩ := ob hr
            refine m_pi (k := 32) C q1730 rfl hX hS e45 dX3_next_167 (fun H locs hX hS => ?_)
            obtain ⟨z48, e48, hr⟩ := ob hr
            refine m_join (I := fun (_ : Unit) H locs ls => mX G z48 H ∧ va_S (zA G) s.heap H locs ∧ lv_has ls 2 [(0, .ref (zh G))]) 247 (fun _ => []) (fun _ H locs ls hi => ?_) (fun J46_247 => ?_)
            · obtain ⟨hX, hS, hl⟩ := hi
              unfold fm_next_k247 at hr
              refine lv_aload_n hx hb dX3_next_247 rfl (lv_at hl 0 rfl) ?_
              refine lv_aload_n hx hb dX3_next_248 rfl (lv_at hl 0 rfl) ?_
              refine m_gi (k := 29) C q1727 rfl hX dX3_next_249 ?_
              refine lv_aload_n hx hb dX3_next_252 rfl (lv_at hl 0 rfl) ?_
              refine m_gi (k := 30) C q1728 rfl hX dX3_next_253 ?_
              refine lv_isub hx hb dX3_next_256 ?_
              refine lv_iconst (v := 4) hx hb dX3_next_257 (by decide) ?_
              refine lv_icmp_gt (tgt := 265) hx hb dX3_next_258 (by decide) (fun c59 => ?_) (fun c59 => ?_)
              · replace hr := it c59 hr
                refine lv_iconst (v := 0) hx hb dX3_next_265 (by decide) ?_
                refine lv_iconst (v := 1) hx hb dX3_next_266 (by decide) ?_
                obtain ⟨x60, e60, hr⟩ := ob hr
                refine m_cvv (As := [.int (0 : Int32), .int (1 : Int32)]) (rest := []) C hX hS hl.1 (cm_wants l G hG z48 (0 : Int32) (1 : Int32) e60) (cwV 2 hts (lw_V q2164 q2166 qs71 q109 q2167) rfl rfl rfl (by decide +kernel) ⟨Nat.le_of_ble_eq_true rfl, Nat.le_of_ble_eq_true rfl⟩) rfl rfl (Nat.le_of_ble_eq_true rfl) dX3_next_267 (fun H locs hX hS => ?_)
                refine lv_goto (tgt := 357) hx hb dX3_next_270 (by decide) ?_
                exact m_rvw (C := C) hret hlk hX hS (Option.some.inj hr) dX3_next_357
              · replace hr := ie c59 hr
                refine lv_iconst (v := 1) hx hb dX3_next_261 (by decide) ?_
                refine lv_goto (tgt := 266) hx hb dX3_next_262 (by decide) ?_
                refine lv_iconst (v := 1) hx hb dX3_next_266 (by decide) ?_
                obtain ⟨x61, e61, hr⟩ := ob hr
                refine m_cvv (As := [.int (1 : Int32), .int (1 : Int32)]) (rest := []) C hX hS hl.1 (cm_wants l G hG z48 (1 : Int32) (1 : Int32) e61) (cwV 2 hts (lw_V q2164 q2166 qs71 q109 q2167) rfl rfl rfl (by decide +kernel) ⟨Nat.le_of_ble_eq_true rfl, Nat.le_of_ble_eq_true rfl⟩) rfl rfl (Nat.le_of_ble_eq_true rfl) dX3_next_267 (fun H locs hX hS => ?_)
                refine lv_goto (tgt := 357) hx hb dX3_next_270 (by decide) ?_
                exact m_rvw (C := C) hret hlk hX hS (Option.some.inj hr) dX3_next_357
            refine m_loop e48 (fun (t46 : mS) H locs ls => mX G t46 H ∧ va_S (zA G) s.heap H locs ∧ lv_has ls 2 [(0, .ref (zh G))]) 170 ⟨hX, hS, lv_sub hl [1] rfl⟩ (fun t46 y46 b46 w46 k46 H locs ls hi => ?_)
            obtain ⟨hX, hS, hl⟩ := hi
            unfold fm_next_l170 at b46
            refine lv_aload_n hx hb dX3_next_170 rfl (lv_at hl 0 rfl) ?_
            refine lv_aload_n hx hb dX3_next_171 rfl (lv_at hl 0 rfl) ?_
            refine m_gi (k := 29) C q1727 rfl hX dX3_next_172 ?_
            obtain ⟨x49, e49, b46⟩ := ob b46
            refine m_cvi (As := [.int (gI t46 29)]) (rest := []) C hX hS hl.1 (cm_look l G hG t46 (gI t46 29) e49) (cwV 1 hts (lw_V q2142 q2144 qs66 q109 q2145) rfl rfl rfl (by decide +kernel) ⟨Nat.le_of_ble_eq_true rfl, Nat.le_of_ble_eq_true rfl⟩) rfl rfl (Nat.le_of_ble_eq_true rfl) dX3_next_175 (fun H locs hX hS => ?_)
            refine lv_i2l (v := x49.toInt64) hx hb dX3_next_178 rfl ?_
            refine lv_ldc2 hx hb hown (hts _ q2168) dX3_next_179 ?_
            refine lv_ldc2 hx hb hown (hts _ q2169) dX3_next_182 ?_
            refine m_csi (As := [.long x49.toInt64, .long (48 : Int64), .long (57 : Int64)]) (rest := []) C hX hS hl.1 (cm_in l x49.toInt64 (48 : Int64) (57 : Int64) rfl) (va_cwS 3 hts (lw_S q1974 q1975 q109 q1976) rfl rfl rfl (by decide +kernel) ⟨Nat.le_of_ble_eq_true rfl, Nat.le_of_ble_eq_true rfl⟩) rfl rfl (Nat.le_of_ble_eq_true rfl) dX3_next_185 (fun H locs hX hS => ?_)
            refine lv_if_eq (tgt := 247) hx hb dX3_next_188 (by decide) (fun c50 => ?_) (fun c50 => ?_)
            · replace b46 := it c50 b46
              replace b46 := lx b46 w46
              subst b46
              exact J46_247 () _ _ ls ⟨hX, hS, hl⟩
            · replace b46 := ie c50 b46
              refine lv_aload_n hx hb dX3_next_191 rfl (lv_at hl 0 rfl) ?_
              refine lv_aload_n hx hb dX3_next_192 rfl (lv_at hl 0 rfl) ?_
              refine m_gi (k := 29) C q1727 rfl hX dX3_next_193 ?_
              refine lv_aload_n hx hb dX3_next_196 rfl (lv_at hl 0 rfl) ?_
              refine m_gi (k := 30) C q1728 rfl hX dX3_next_197 ?_
              refine lv_isub hx hb dX3_next_200 ?_
              refine lv_iconst (v := 4) hx hb dX3_next_201 (by decide) ?_
              obtain ⟨x51, r51, b46⟩ := ob b46
              refine m_join (I := fun (t52 : Int32) H locs ls => x51 = t52 ∧ mX G t46 H ∧ va_S (zA G) s.heap H locs ∧ lv_has ls 2 [(0, .ref (zh G))]) 231 (fun t52 => [.int t52, .ref (zh G)]) (fun t52 H locs ls hi => ?_) (fun J51 => ?_)
              · obtain ⟨rfl, hX, hS, hl⟩ := hi
                obtain ⟨x57, e57, b46⟩ := ob b46
                refine m_pi (k := 32) C q1730 rfl hX hS e57 dX3_next_231 (fun H locs hX hS => ?_)
                refine lv_aload_n hx hb dX3_next_234 rfl (lv_at hl 0 rfl) ?_
                refine lv_dup hx hb dX3_next_235 rfl ?_
                refine m_gi (k := 29) C q1727 rfl hX dX3_next_236 ?_
                refine lv_iconst (v := 1) hx hb dX3_next_239 (by decide) ?_
                refine lv_iadd hx hb dX3_next_240 ?_
                obtain ⟨x58, e58, b46⟩ := ob b46
                refine m_pi (k := 29) C q1727 rfl hX hS e58 dX3_next_241 (fun H locs hX hS => ?_)
                refine lv_goto (tgt := 170) hx hb dX3_next_244 (by decide) ?_
                exact k46 _ (Option.some.inj b46).symm _ _ ls ⟨hX, hS, hl⟩
              · refine lv_icmp_ge (tgt := 227) hx hb dX3_next_202 (by decide) (fun c53 => ?_) (fun c53 => ?_)
                · replace r51 := it c53 r51
                  refine lv_aload_n hx hb dX3_next_227 rfl (lv_at hl 0 rfl) ?_
                  refine m_gi (k := 32) C q1730 rfl hX dX3_next_228 ?_
                  obtain ⟨g54, hg54⟩ : ∃ g, g = (gI t46 32) := ⟨_, rfl⟩
                  rw [← hg54] at ⊢ r51
                  exact J51 _ _ _ ls ⟨(Option.some.inj r51).symm, hX, hS, hl⟩
                · replace r51 := ie c53 r51
                  refine lv_bipush (v := 10) hx hb dX3_next_205 (by decide) ?_
                  refine lv_aload_n hx hb dX3_next_207 rfl (lv_at hl 0 rfl) ?_
                  refine m_gi (k := 32) C q1730 rfl hX dX3_next_208 ?_
                  refine lv_imul hx hb dX3_next_211 ?_
                  refine lv_aload_n hx hb dX3_next_212 rfl (lv_at hl 0 rfl) ?_
                  refine lv_aload_n hx hb dX3_next_213 rfl (lv_at hl 0 rfl) ?_
                  refine m_gi (k := 29) C q1727 rfl hX dX3_next_214 ?_
                  obtain ⟨x55, e55, r51⟩ := ob r51
                  refine m_cvi (As := [.int (gI t46 29)]) (rest := [.int ((10 : Int32) * (gI t46 32)), .ref (zh G)]) C hX hS hl.1 (cm_look l G hG t46 (gI t46 29) e55) (cwV 1 hts (lw_V q2142 q2144 qs66 q109 q2145) rfl rfl rfl (by decide +kernel) ⟨Nat.le_of_ble_eq_true rfl, Nat.le_of_ble_eq_true rfl⟩) rfl rfl (Nat.le_of_ble_eq_true rfl) dX3_next_217 (fun H locs hX hS => ?_)
                  refine lv_iadd hx hb dX3_next_220 ?_
                  refine lv_bipush (v := 48) hx hb dX3_next_221 (by decide) ?_
                  refine lv_isub hx hb dX3_next_223 ?_
                  refine lv_goto (tgt := 231) hx hb dX3_next_224 (by decide) ?_
                  obtain ⟨g56, hg56⟩ : ∃ g, g = ((((10 : Int32) * (gI t46 32)) + x55) - (48 : Int32)) := ⟨_, rfl⟩
                  rw [← hg56] at ⊢ r51
                  exact J51 _ _ _ ls ⟨(Option.some.inj r51).symm, hX, hS, hl⟩
        · replace hr := ie c11 hr
          refine lv_aload_n hx hb dX3_next_77 rfl (lv_at hl 1 rfl) ?_
          refine lv_iconst (v := 1) hx hb dX3_next_78 (by decide) ?_
          obtain ⟨x62, e62, hr⟩ := ob hr
          refine m_pi (k := 31) C q1729 rfl hX hS e62 dX3_next_79 (fun H locs hX hS => ?_)
          obtain ⟨z65, e65, hr⟩ := ob hr
          refine m_join (I := fun (_ : Unit) H locs ls => mX G z65 H ∧ va_S (zA G) s.heap H locs ∧ lv_has ls 2 [(0, .ref (zh G))]) 116 (fun _ => []) (fun _ H locs ls hi => ?_) (fun J63_116 => ?_)
          · obtain ⟨hX, hS, hl⟩ := hi
            unfold fm_next_k116 at hr
            refine lv_aload_n hx hb dX3_next_116 rfl (lv_at hl 0 rfl) ?_
            refine lv_aload_n hx hb dX3_next_117 rfl (lv_at hl 0 rfl) ?_
            obtain ⟨x69, e69, hr⟩ := ob hr
            refine m_cvi (As := []) (rest := [.ref (zh G)]) C hX hS hl.1 (cm_nameNow l G hG z65  e69) (cwV 0 hts (lw_V q2148 q2150 qs67 q109 q2151) rfl rfl rfl (by decide +kernel) ⟨Nat.le_of_ble_eq_true rfl, Nat.le_of_ble_eq_true rfl⟩) rfl rfl (Nat.le_of_ble_eq_true rfl) dX3_next_118 (fun H locs hX hS => ?_)
            obtain ⟨x70, e70, hr⟩ := ob hr
            refine m_pi (k := 32) C q1730 rfl hX hS e70 dX3_next_121 (fun H locs hX hS => ?_)
            refine lv_aload_n hx hb dX3_next_124 rfl (lv_at hl 0 rfl) ?_
            refine lv_aload_n hx hb dX3_next_125 rfl (lv_at hl 0 rfl) ?_
            refine m_gi (k := 32) C q1730 rfl hX dX3_next_126 ?_
            refine lv_bipush (v := -4) hx hb dX3_next_129 (by decide) ?_
            refine lv_icmp_eq (tgt := 138) hx hb dX3_next_131 (by decide) (fun c71 => ?_) (fun c71 => ?_)
            · replace hr := it c71 hr
              refine lv_iconst (v := 0) hx hb dX3_next_138 (by decide) ?_
              refine lv_iconst (v := 1) hx hb dX3_next_139 (by decide) ?_
              obtain ⟨x72, e72, hr⟩ := ob hr
              refine m_cvv (As := [.int (0 : Int32), .int (1 : Int32)]) (rest := []) C hX hS hl.1 (cm_wants l G hG x70 (0 : Int32) (1 : Int32) e72) (cwV 2 hts (lw_V q2164 q2166 qs71 q109 q2167) rfl rfl rfl (by decide +kernel) ⟨Nat.le_of_ble_eq_true rfl, Nat.le_of_ble_eq_true rfl⟩) rfl rfl (Nat.le_of_ble_eq_true rfl) dX3_next_140 (fun H locs hX hS => ?_)
              refine lv_goto (tgt := 357) hx hb dX3_next_143 (by decide) ?_
              exact m_rvw (C := C) hret hlk hX hS (Option.some.inj hr) dX3_next_357
            · replace hr := ie c71 hr
              refine lv_iconst (v := 1) hx hb dX3_next_134 (by decide) ?_
              refine lv_goto (tgt := 139) hx hb dX3_next_135 (by decide) ?_
              refine lv_iconst (v := 1) hx hb dX3_next_139 (by decide) ?_
              obtain ⟨x73, e73, hr⟩ := ob hr
              refine m_cvv (As := [.int (1 : Int32), .int (1 : Int32)]) (rest := []) C hX hS hl.1 (cm_wants l G hG x70 (1 : Int32) (1 : Int32) e73) (cwV 2 hts (lw_V q2164 q2166 qs71 q109 q2167) rfl rfl rfl (by decide +kernel) ⟨Nat.le_of_ble_eq_true rfl, Nat.le_of_ble_eq_true rfl⟩) rfl rfl (Nat.le_of_ble_eq_true rfl) dX3_next_140 (fun H locs hX hS => ?_)
              refine lv_goto (tgt := 357) hx hb dX3_next_143 (by decide) ?_
              exact m_rvw (C := C) hret hlk hX hS (Option.some.inj hr) dX3_next_357
          refine m_loop e65 (fun (t63 : mS) H locs ls => mX G t63 H ∧ va_S (zA G) s.heap H locs ∧ lv_has ls 2 [(0, .ref (zh G))]) 82 ⟨hX, hS, lv_sub hl [1] rfl⟩ (fun t63 y63 b63 w63 k63 H locs ls hi => ?_)
          obtain ⟨hX, hS, hl⟩ := hi
          unfold fm_next_l82 at b63
          refine lv_aload_n hx hb dX3_next_82 rfl (lv_at hl 0 rfl) ?_
          refine lv_aload_n hx hb dX3_next_83 rfl (lv_at hl 0 rfl) ?_
          refine m_gi (k := 29) C q1727 rfl hX dX3_next_84 ?_
          obtain ⟨x66, e66, b63⟩ := ob b63
          refine m_cvi (As := [.int (gI t63 29)]) (rest := []) C hX hS hl.1 (cm_look l G hG t63 (gI t63 29) e66) (cwV 1 hts (lw_V q2142 q2144 qs66 q109 q2145) rfl rfl rfl (by decide +kernel) ⟨Nat.le_of_ble_eq_true rfl, Nat.le_of_ble_eq_true rfl⟩) rfl rfl (Nat.le_of_ble_eq_true rfl) dX3_next_87 (fun H locs hX hS => ?_)
          refine lv_i2l (v := x66.toInt64) hx hb dX3_next_90 rfl ?_
          refine lv_ldc2 hx hb hown (hts _ q2146) dX3_next_91 ?_
          refine lv_ldc2 hx hb hown (hts _ q2147) dX3_next_94 ?_
          refine m_csi (As := [.long x66.toInt64, .long (97 : Int64), .long (122 : Int64)]) (rest := []) C hX hS hl.1 (cm_in l x66.toInt64 (97 : Int64) (122 : Int64) rfl) (va_cwS 3 hts (lw_S q1974 q1975 q109 q1976) rfl rfl rfl (by decide +kernel) ⟨Nat.le_of_ble_eq_true rfl, Nat.le_of_ble_eq_true rfl⟩) rfl rfl (Nat.le_of_ble_eq_true rfl) dX3_next_97 (fun H locs hX hS => ?_)
          refine lv_if_eq (tgt := 116) hx hb dX3_next_100 (by decide) (fun c67 => ?_) (fun c67 => ?_)
          · replace b63 := it c67 b63
            replace b63 := lx b63 w63
            subst b63
            exact J63_116 () _ _ ls ⟨hX, hS, hl⟩
          · replace b63 := ie c67 b63
            refine lv_aload_n hx hb dX3_next_103 rfl (lv_at hl 0 rfl) ?_
            refine lv_dup hx hb dX3_next_104 rfl ?_
            refine m_gi (k := 29) C q1727 rfl hX dX3_next_105 ?_
            refine lv_iconst (v := 1) hx hb dX3_next_108 (by decide) ?_
            refine lv_iadd hx hb dX3_next_109 ?_
            obtain ⟨x68, e68, b63⟩ := ob b63
            refine m_pi (k := 29) C q1727 rfl hX hS e68 dX3_next_110 (fun H locs hX hS => ?_)
            refine lv_goto (tgt := 82) hx hb dX3_next_113 (by decide) ?_
            exact k63 _ (Option.some.inj b63).symm _ _ ls ⟨hX, hS, hl⟩
      · replace hr := ie c10 hr
        refine lv_aload_n hx hb dX3_next_55 rfl (lv_at hl 1 rfl) ?_
        refine lv_iconst (v := 0) hx hb dX3_next_56 (by decide) ?_
        obtain ⟨x74, e74, hr⟩ := ob hr
        refine m_pi (k := 31) C q1729 rfl hX hS e74 dX3_next_57 (fun H locs hX hS => ?_)
        refine lv_goto (tgt := 357) hx hb dX3_next_60 (by decide) ?_
        exact m_rvw (C := C) hret hlk hX hS (Option.some.inj hr) dX3_next_357
    refine m_loop e4 (fun (t2 : mS) H locs ls => mX G t2 H ∧ va_S (zA G) s.heap H locs ∧ lv_has ls 2 [(0, .ref (zh G))]) 8 ⟨hX, hS, hl⟩ (fun t2 y2 b2 w2 k2 H locs ls hi => ?_)
    obtain ⟨hX, hS, hl⟩ := hi
    unfold fm_next_l8 at b2
    refine lv_aload_n hx hb dX3_next_8 rfl (lv_at hl 0 rfl) ?_
    refine lv_aload_n hx hb dX3_next_9 rfl (lv_at hl 0 rfl) ?_
    refine m_gi (k := 29) C q1727 rfl hX dX3_next_10 ?_
    obtain ⟨x5, e5, b2⟩ := ob b2
    refine m_cvi (As := [.int (gI t2 29)]) (rest := []) C hX hS hl.1 (cm_look l G hG t2 (gI t2 29) e5) (cwV 1 hts (lw_V q2142 q2144 qs66 q109 q2145) rfl rfl rfl (by decide +kernel) ⟨Nat.le_of_ble_eq_true rfl, Nat.le_of_ble_eq_true rfl⟩) rfl rfl (Nat.le_of_ble_eq_true rfl) dX3_next_13 (fun H locs hX hS => ?_)
    refine lv_bipush (v := 32) hx hb dX3_next_16 (by decide) ?_
    refine lv_icmp_ne (tgt := 34) hx hb dX3_next_18 (by decide) (fun c6 => ?_) (fun c6 => ?_)
    · replace b2 := ie c6 b2
      replace b2 := lx b2 w2
      subst b2
      exact J2_34 () _ _ ls ⟨hX, hS, hl⟩
    · replace b2 := it c6 b2
      refine lv_aload_n hx hb dX3_next_21 rfl (lv_at hl 0 rfl) ?_
      refine lv_dup hx hb dX3_next_22 rfl ?_
      refine m_gi (k := 29) C q1727 rfl hX dX3_next_23 ?_
      refine lv_iconst (v := 1) hx hb dX3_next_26 (by decide) ?_
      refine lv_iadd hx hb dX3_next_27 ?_
      obtain ⟨x7, e7, b2⟩ := ob b2
      refine m_pi (k := 29) C q1727 rfl hX hS e7 dX3_next_28 (fun H locs hX hS => ?_)
      refine lv_goto (tgt := 8) hx hb dX3_next_31 (by decide) ?_
      exact k2 _ (Option.some.inj b2).symm _ _ ls ⟨hX, hS, hl⟩
  · replace hr := ie c1 hr
    exact m_rvw (C := C) hret hlk hX hS (Option.some.inj hr) dX3_next_7
