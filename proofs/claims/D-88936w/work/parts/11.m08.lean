/-! M's methods, printed by tool/genm.py -/
def fm_rope (S : mS) (a1 : Int32) (a2 : Int32) (a3 : Int32) (a4 : Int32) : Option (mS × Int32) :=
  (if (fm_isRoute S a1) = 0 then
  some (S, (-1 : Int32))
  else
  (if (fm_in a2.toInt64 (0 : Int64) (9 : Int64)) = 0 then
  some (S, (-1 : Int32))
  else
  (if (fm_in a3.toInt64 (0 : Int64) (95 : Int64)) = 0 then
  some (S, (-1 : Int32))
  else
  (if (fm_in a4.toInt64 (1 : Int64) (9 : Int64)) = 0 then
  some (S, (-1 : Int32))
  else
  (if (gI S 54) = (8 : Int32) then
  some (S, (-3 : Int32))
  else
  (tI S 55 (gI S 54) a1).bind fun x6 =>
  (tI x6 56 (gI x6 54) a2).bind fun x7 =>
  (tI x7 57 (gI x7 54) a3).bind fun x8 =>
  (tI x8 58 (gI x8 54) a4).bind fun x9 =>
  (pI x9 54 ((gI x9 54) + (1 : Int32))).bind fun x10 =>
  some (x10, ((gI x10 54) - (1 : Int32))))))))
set_option maxHeartbeats 4000000 in
set_option maxRecDepth 100000 in
theorem cm_rope (l : Launch) (G : mGh) (hG : mOk G) (S : mS) (a1 : Int32) (a2 : Int32) (a3 : Int32) (a4 : Int32) {S' : mS} {r : Int32} (hr : fm_rope S a1 a2 a3 a4 = some (S', r)) : Met l yX3_rope (ws_ yX3_rope cX3_rope 5 (some .int)) ({ frames := 2, cells := 0, slots := 0, locals := 46 } : Room) (mPc G [.int a1, .int a2, .int a3, .int a4] S) (mQi G r S') 0 0 (zA G) := by
  refine m_met cX3_rope (by decide) rfl hG (Nat.le_of_ble_eq_true rfl) (fun p e s m args below meth c C hret hlk ls hX hl => ?_)
  have hx := C.1.1
  have hb := C.1.2.1
  have hown := C.1.2.2.2.1
  have hts := C.1.2.2.2.2
  have hS : va_S (zA G) s.heap s.heap [] := va_S.rf
  have hl : lv_has ls 5 [(0, .ref (zh G)), (1, .int a1), (2, .int a2), (3, .int a3), (4, .int a4)] := hl
  unfold fm_rope at hr
  refine lv_aload_n hx hb dX3_rope_0 rfl (lv_at hl 0 rfl) ?_
  refine lv_iload_n hx hb dX3_rope_1 rfl (lv_at hl 1 rfl) ?_
  refine m_cvi (As := [.int a1]) (rest := []) C hX hS hl.1 (cm_isRoute l G hG S a1 rfl) (cwV 1 hts (lw_V q2003 q2005 qs52 q109 q2006) rfl rfl rfl (by decide +kernel) ⟨Nat.le_of_ble_eq_true rfl, Nat.le_of_ble_eq_true rfl⟩) rfl rfl (Nat.le_of_ble_eq_true rfl) dX3_rope_2 (fun H locs hX hS => ?_)
  refine lv_if_eq (tgt := 45) hx hb dX3_rope_5 (by decide) (fun c1 => ?_) (fun c1 => ?_)
  · replace hr := it c1 hr
    refine lv_iconst (v := -1) hx hb dX3_rope_45 (by decide) ?_
    exact m_riw (C := C) hret hlk hX hS (Option.some.inj hr) dX3_rope_46
  · replace hr := ie c1 hr
    refine lv_iload_n hx hb dX3_rope_8 rfl (lv_at hl 2 rfl) ?_
    refine lv_i2l (v := a2.toInt64) hx hb dX3_rope_9 rfl ?_
    refine lv_lconst (v := 0) hx hb dX3_rope_10 (by decide) ?_
    refine lv_ldc2 hx hb hown (hts _ q1973) dX3_rope_11 ?_
    refine m_csi (As := [.long a2.toInt64, .long (0 : Int64), .long (9 : Int64)]) (rest := []) C hX hS hl.1 (cm_in l a2.toInt64 (0 : Int64) (9 : Int64) rfl) (va_cwS 3 hts (lw_S q1974 q1975 q109 q1976) rfl rfl rfl (by decide +kernel) ⟨Nat.le_of_ble_eq_true rfl, Nat.le_of_ble_eq_true rfl⟩) rfl rfl (Nat.le_of_ble_eq_true rfl) dX3_rope_14 (fun H locs hX hS => ?_)
    refine lv_if_eq (tgt := 45) hx hb dX3_rope_17 (by decide) (fun c2 => ?_) (fun c2 => ?_)
    · replace hr := it c2 hr
      refine lv_iconst (v := -1) hx hb dX3_rope_45 (by decide) ?_
      exact m_riw (C := C) hret hlk hX hS (Option.some.inj hr) dX3_rope_46
    · replace hr := ie c2 hr
      refine lv_iload_n hx hb dX3_rope_20 rfl (lv_at hl 3 rfl) ?_
      refine lv_i2l (v := a3.toInt64) hx hb dX3_rope_21 rfl ?_
      refine lv_lconst (v := 0) hx hb dX3_rope_22 (by decide) ?_
      refine lv_ldc2 hx hb hown (hts _ q2070) dX3_rope_23 ?_
      refine m_csi (As := [.long a3.toInt64, .long (0 : Int64), .long (95 : Int64)]) (rest := []) C hX hS hl.1 (cm_in l a3.toInt64 (0 : Int64) (95 : Int64) rfl) (va_cwS 3 hts (lw_S q1974 q1975 q109 q1976) rfl rfl rfl (by decide +kernel) ⟨Nat.le_of_ble_eq_true rfl, Nat.le_of_ble_eq_true rfl⟩) rfl rfl (Nat.le_of_ble_eq_true rfl) dX3_rope_26 (fun H locs hX hS => ?_)
      refine lv_if_eq (tgt := 45) hx hb dX3_rope_29 (by decide) (fun c3 => ?_) (fun c3 => ?_)
      · replace hr := it c3 hr
        refine lv_iconst (v := -1) hx hb dX3_rope_45 (by decide) ?_
        exact m_riw (C := C) hret hlk hX hS (Option.some.inj hr) dX3_rope_46
      · replace hr := ie c3 hr
        refine lv_iload hx hb dX3_rope_32 (lv_at hl 4 rfl) ?_
        refine lv_i2l (v := a4.toInt64) hx hb dX3_rope_34 rfl ?_
        refine lv_lconst (v := 1) hx hb dX3_rope_35 (by decide) ?_
        refine lv_ldc2 hx hb hown (hts _ q1973) dX3_rope_36 ?_
        refine m_csi (As := [.long a4.toInt64, .long (1 : Int64), .long (9 : Int64)]) (rest := []) C hX hS hl.1 (cm_in l a4.toInt64 (1 : Int64) (9 : Int64) rfl) (va_cwS 3 hts (lw_S q1974 q1975 q109 q1976) rfl rfl rfl (by decide +kernel) ⟨Nat.le_of_ble_eq_true rfl, Nat.le_of_ble_eq_true rfl⟩) rfl rfl (Nat.le_of_ble_eq_true rfl) dX3_rope_39 (fun H locs hX hS => ?_)
        refine lv_if_ne (tgt := 47) hx hb dX3_rope_42 (by decide) (fun c4 => ?_) (fun c4 => ?_)
        · replace hr := ie c4 hr
          refine lv_aload_n hx hb dX3_rope_47 rfl (lv_at hl 0 rfl) ?_
          refine m_gi (k := 54) C q1752 rfl hX dX3_rope_48 ?_
          refine lv_bipush (v := 8) hx hb dX3_rope_51 (by decide) ?_
          refine lv_icmp_ne (tgt := 59) hx hb dX3_rope_53 (by decide) (fun c5 => ?_) (fun c5 => ?_)
          · replace hr := ie c5 hr
            refine lv_aload_n hx hb dX3_rope_59 rfl (lv_at hl 0 rfl) ?_
            refine m_ga (k := 55) (d := 0) C q1753 rfl (by decide) hX dX3_rope_60 ?_
            refine lv_aload_n hx hb dX3_rope_63 rfl (lv_at hl 0 rfl) ?_
            refine m_gi (k := 54) C q1752 rfl hX dX3_rope_64 ?_
            refine lv_iload_n hx hb dX3_rope_67 rfl (lv_at hl 1 rfl) ?_
            obtain ⟨x6, e6, hr⟩ := ob hr
            refine m_is (k := 55) C rfl hX hS e6 dX3_rope_68 (fun H locs hX hS => ?_)
            refine lv_aload_n hx hb dX3_rope_69 rfl (lv_at hl 0 rfl) ?_
            refine m_ga (k := 56) (d := 0) C q1754 rfl (by decide) hX dX3_rope_70 ?_
            refine lv_aload_n hx hb dX3_rope_73 rfl (lv_at hl 0 rfl) ?_
            refine m_gi (k := 54) C q1752 rfl hX dX3_rope_74 ?_
            refine lv_iload_n hx hb dX3_rope_77 rfl (lv_at hl 2 rfl) ?_
            obtain ⟨x7, e7, hr⟩ := ob hr
            refine m_is (k := 56) C rfl hX hS e7 dX3_rope_78 (fun H locs hX hS => ?_)
            refine lv_aload_n hx hb dX3_rope_79 rfl (lv_at hl 0 rfl) ?_
            refine m_ga (k := 57) (d := 0) C q1755 rfl (by decide) hX dX3_rope_80 ?_
            refine lv_aload_n hx hb dX3_rope_83 rfl (lv_at hl 0 rfl) ?_
            refine m_gi (k := 54) C q1752 rfl hX dX3_rope_84 ?_
            refine lv_iload_n hx hb dX3_rope_87 rfl (lv_at hl 3 rfl) ?_
            obtain ⟨x8, e8, hr⟩ := ob hr
            refine m_is (k := 57) C rfl hX hS e8 dX3_rope_88 (fun H locs hX hS => ?_)
            refine lv_aload_n hx hb dX3_rope_89 rfl (lv_at hl 0 rfl) ?_
            refine m_ga (k := 58) (d := 0) C q1756 rfl (by decide) hX dX3_rope_90 ?_
            refine lv_aload_n hx hb dX3_rope_93 rfl (lv_at hl 0 rfl) ?_
            refine m_gi (k := 54) C q1752 rfl hX dX3_rope_94 ?_
            refine lv_iload hx hb dX3_rope_97 (lv_at hl 4 rfl) ?_
            obtain ⟨x9, e9, hr⟩ := ob hr
            refine m_is (k := 58) C rfl hX hS e9 dX3_rope_99 (fun H locs hX hS => ?_)
            refine lv_aload_n hx hb dX3_rope_100 rfl (lv_at hl 0 rfl) ?_
            refine lv_dup hx hb dX3_rope_101 rfl ?_
            refine m_gi (k := 54) C q1752 rfl hX dX3_rope_102 ?_
            refine lv_iconst (v := 1) hx hb dX3_rope_105 (by decide) ?_
            refine lv_iadd hx hb dX3_rope_106 ?_
            obtain ⟨x10, e10, hr⟩ := ob hr
            refine m_pi (k := 54) C q1752 rfl hX hS e10 dX3_rope_107 (fun H locs hX hS => ?_)
            refine lv_aload_n hx hb dX3_rope_110 rfl (lv_at hl 0 rfl) ?_
            refine m_gi (k := 54) C q1752 rfl hX dX3_rope_111 ?_
            refine lv_iconst (v := 1) hx hb dX3_rope_114 (by decide) ?_
            refine lv_isub hx hb dX3_rope_115 ?_
            exact m_riw (C := C) hret hlk hX hS (Option.some.inj hr) dX3_rope_116
          · replace hr := it c5 hr
            refine lv_bipush (v := -3) hx hb dX3_rope_56 (by decide) ?_
            exact m_riw (C := C) hret hlk hX hS (Option.some.inj hr) dX3_rope_58
        · replace hr := it c4 hr
          refine lv_iconst (v := -1) hx hb dX3_rope_45 (by decide) ?_
          exact m_riw (C := C) hret hlk hX hS (Option.some.inj hr) dX3_rope_46

def fm_unrope (S : mS) : Option (mS × Int32) :=
  (if (gI S 54) = 0 then
  some (S, (-4 : Int32))
  else
  (pI S 54 ((gI S 54) - (1 : Int32))).bind fun x2 =>
  some (x2, (gI x2 54)))
set_option maxHeartbeats 4000000 in
set_option maxRecDepth 100000 in
theorem cm_unrope (l : Launch) (G : mGh) (hG : mOk G) (S : mS)  {S' : mS} {r : Int32} (hr : fm_unrope S = some (S', r)) : Met l yX3_unrope (ws_ yX3_unrope cX3_unrope 1 (some .int)) ({ frames := 0, cells := 0, slots := 0, locals := 0 } : Room) (mPc G [] S) (mQi G r S') 0 0 (zA G) := by
  refine m_met cX3_unrope (by decide) rfl hG (Nat.le_of_ble_eq_true rfl) (fun p e s m args below meth c C hret hlk ls hX hl => ?_)
  have hx := C.1.1
  have hb := C.1.2.1
  have hown := C.1.2.2.2.1
  have hts := C.1.2.2.2.2
  have hS : va_S (zA G) s.heap s.heap [] := va_S.rf
  have hl : lv_has ls 1 [(0, .ref (zh G))] := hl
  unfold fm_unrope at hr
  refine lv_aload_n hx hb dX3_unrope_0 rfl (lv_at hl 0 rfl) ?_
  refine m_gi (k := 54) C q1752 rfl hX dX3_unrope_1 ?_
  refine lv_if_ne (tgt := 10) hx hb dX3_unrope_4 (by decide) (fun c1 => ?_) (fun c1 => ?_)
  · replace hr := ie c1 hr
    refine lv_aload_n hx hb dX3_unrope_10 rfl (lv_at hl 0 rfl) ?_
    refine lv_dup hx hb dX3_unrope_11 rfl ?_
    refine m_gi (k := 54) C q1752 rfl hX dX3_unrope_12 ?_
    refine lv_iconst (v := 1) hx hb dX3_unrope_15 (by decide) ?_
    refine lv_isub hx hb dX3_unrope_16 ?_
    obtain ⟨x2, e2, hr⟩ := ob hr
    refine m_pi (k := 54) C q1752 rfl hX hS e2 dX3_unrope_17 (fun H locs hX hS => ?_)
    refine lv_aload_n hx hb dX3_unrope_20 rfl (lv_at hl 0 rfl) ?_
    refine m_gi (k := 54) C q1752 rfl hX dX3_unrope_21 ?_
    exact m_riw (C := C) hret hlk hX hS (Option.some.inj hr) dX3_unrope_24
  · replace hr := it c1 hr
    refine lv_bipush (v := -4) hx hb dX3_unrope_7 (by decide) ?_
    exact m_riw (C := C) hret hlk hX hS (Option.some.inj hr) dX3_unrope_9

def fm_comes (S : mS) (a1 : Int32) (a2 : Int32) (a3 : Int32) : Option mS :=
  (tI S 63 a1 a2).bind fun x1 =>
  (tI x1 64 a1 a3).bind fun x2 =>
  (tI x2 65 a1 (-4 : Int32)).bind fun x3 =>
  (aI x3 71 a2).bind fun x4 =>
  (tI x3 71 a2 (x4 + (1 : Int32))).bind fun x5 =>
  some x5
set_option maxHeartbeats 4000000 in
set_option maxRecDepth 100000 in
theorem cm_comes (l : Launch) (G : mGh) (hG : mOk G) (S : mS) (a1 : Int32) (a2 : Int32) (a3 : Int32) {S' : mS} (hr : fm_comes S a1 a2 a3 = some S') : Met l yX3_comes (ws_ yX3_comes cX3_comes 4 none) ({ frames := 0, cells := 0, slots := 0, locals := 0 } : Room) (mPc G [.int a1, .int a2, .int a3] S) (mQv G S') 0 0 (zA G) := by
  refine m_met cX3_comes (by decide) rfl hG (Nat.le_of_ble_eq_true rfl) (fun p e s m args below meth c C hret hlk ls hX hl => ?_)
  have hx := C.1.1
  have hb := C.1.2.1
  have hown := C.1.2.2.2.1
  have hts := C.1.2.2.2.2
  have hS : va_S (zA G) s.heap s.heap [] := va_S.rf
  have hl : lv_has ls 4 [(0, .ref (zh G)), (1, .int a1), (2, .int a2), (3, .int a3)] := hl
  unfold fm_comes at hr
  refine lv_aload_n hx hb dX3_comes_0 rfl (lv_at hl 0 rfl) ?_
  refine m_ga (k := 63) (d := 0) C q1761 rfl (by decide) hX dX3_comes_1 ?_
  refine lv_iload_n hx hb dX3_comes_4 rfl (lv_at hl 1 rfl) ?_
  refine lv_iload_n hx hb dX3_comes_5 rfl (lv_at hl 2 rfl) ?_
  obtain ⟨x1, e1, hr⟩ := ob hr
  refine m_is (k := 63) C rfl hX hS e1 dX3_comes_6 (fun H locs hX hS => ?_)
  refine lv_aload_n hx hb dX3_comes_7 rfl (lv_at hl 0 rfl) ?_
  refine m_ga (k := 64) (d := 0) C q1762 rfl (by decide) hX dX3_comes_8 ?_
  refine lv_iload_n hx hb dX3_comes_11 rfl (lv_at hl 1 rfl) ?_
  refine lv_iload_n hx hb dX3_comes_12 rfl (lv_at hl 3 rfl) ?_
  obtain ⟨x2, e2, hr⟩ := ob hr
  refine m_is (k := 64) C rfl hX hS e2 dX3_comes_13 (fun H locs hX hS => ?_)
  refine lv_aload_n hx hb dX3_comes_14 rfl (lv_at hl 0 rfl) ?_
  refine m_ga (k := 65) (d := 0) C q1763 rfl (by decide) hX dX3_comes_15 ?_
  refine lv_iload_n hx hb dX3_comes_18 rfl (lv_at hl 1 rfl) ?_
  refine lv_bipush (v := -4) hx hb dX3_comes_19 (by decide) ?_
  obtain ⟨x3, e3, hr⟩ := ob hr
  refine m_is (k := 65) C rfl hX hS e3 dX3_comes_21 (fun H locs hX hS => ?_)
  refine lv_aload_n hx hb dX3_comes_22 rfl (lv_at hl 0 rfl) ?_
  refine m_ga (k := 71) (d := 0) C q1769 rfl (by decide) hX dX3_comes_23 ?_
  refine lv_iload_n hx hb dX3_comes_26 rfl (lv_at hl 2 rfl) ?_
  refine lv_dup2_11 hx hb dX3_comes_27 rfl rfl ?_
  obtain ⟨x4, e4, hr⟩ := ob hr
  refine m_ia (k := 71) C rfl hX e4 dX3_comes_28 ?_
  refine lv_iconst (v := 1) hx hb dX3_comes_29 (by decide) ?_
  refine lv_iadd hx hb dX3_comes_30 ?_
  obtain ⟨x5, e5, hr⟩ := ob hr
  refine m_is (k := 71) C rfl hX hS e5 dX3_comes_31 (fun H locs hX hS => ?_)
  exact m_rvw (C := C) hret hlk hX hS (Option.some.inj hr) dX3_comes_32

def fm_done_k44 (S : mS) (a1 : Int32) (a2 : Int32) (x1 : Int32) (x5 : Int32) : Option (mS) :=
  (tZ S 60 a1 (1 : Int32)).bind fun x10 =>
  (tI x10 66 a1 a2).bind fun x11 =>
  (tI x11 68 a1 x5).bind fun x12 =>
  (aI x12 69 x1).bind fun x13 =>
  (tI x12 69 x1 (x13 + x5)).bind fun x14 =>
  (aI x14 70 x1).bind fun x15 =>
  (aI x14 58 a1).bind fun x16 =>
  (tI x14 70 x1 (x15 + (x16 - x5))).bind fun x17 =>
  some x17
def fm_done (S : mS) (a1 : Int32) (a2 : Int32) : Option mS :=
  (aI S 63 a1).bind fun x1 =>
  (aI S 1 x1).bind fun x2 =>
  (aI S 69 x1).bind fun x3 =>
  (aI S 58 a1).bind fun x4 =>
  (((if (x2 - x3) ≤ x4 then
  some (x2 - x3)
  else
  (aI S 58 a1).bind fun x9 =>
  some x9) : Option (Int32))).bind (fun x5 => fm_done_k44 S a1 a2 x1 x5)
set_option maxHeartbeats 4000000 in
set_option maxRecDepth 100000 in
theorem cm_done (l : Launch) (G : mGh) (hG : mOk G) (S : mS) (a1 : Int32) (a2 : Int32) {S' : mS} (hr : fm_done S a1 a2 = some S') : Met l yX3_done (ws_ yX3_done cX3_done 6 none) ({ frames := 0, cells := 0, slots := 0, locals := 0 } : Room) (mPc G [.int a1, .int a2] S) (mQv G S') 0 0 (zA G) := by
  refine m_met cX3_done (by decide) rfl hG (Nat.le_of_ble_eq_true rfl) (fun p e s m args below meth c C hret hlk ls hX hl => ?_)
  have hx := C.1.1
  have hb := C.1.2.1
  have hown := C.1.2.2.2.1
  have hts := C.1.2.2.2.2
  have hS : va_S (zA G) s.heap s.heap [] := va_S.rf
  have hl : lv_has ls 6 [(0, .ref (zh G)), (1, .int a1), (2, .int a2)] := hl
  unfold fm_done at hr
  refine lv_aload_n hx hb dX3_done_0 rfl (lv_at hl 0 rfl) ?_
  refine m_ga (k := 63) (d := 0) C q1761 rfl (by decide) hX dX3_done_1 ?_
  refine lv_iload_n hx hb dX3_done_4 rfl (lv_at hl 1 rfl) ?_
  obtain ⟨x1, e1, hr⟩ := ob hr
  refine m_ia (k := 63) C rfl hX e1 dX3_done_5 ?_
  refine lv_istore_n (lv' := [(3, .int x1), (0, .ref (zh G)), (1, .int a1), (2, .int a2)]) hx hb dX3_done_6 rfl hl (by decide) rfl (fun ls hl => ?_)
  refine lv_aload_n hx hb dX3_done_7 rfl (lv_at hl 1 rfl) ?_
  refine m_ga (k := 1) (d := 0) C q1699 rfl (by decide) hX dX3_done_8 ?_
  refine lv_iload_n hx hb dX3_done_11 rfl (lv_at hl 0 rfl) ?_
  obtain ⟨x2, e2, hr⟩ := ob hr
  refine m_ia (k := 1) C rfl hX e2 dX3_done_12 ?_
  refine lv_aload_n hx hb dX3_done_13 rfl (lv_at hl 1 rfl) ?_
  refine m_ga (k := 69) (d := 0) C q1767 rfl (by decide) hX dX3_done_14 ?_
  refine lv_iload_n hx hb dX3_done_17 rfl (lv_at hl 0 rfl) ?_
  obtain ⟨x3, e3, hr⟩ := ob hr
  refine m_ia (k := 69) C rfl hX e3 dX3_done_18 ?_
  refine lv_isub hx hb dX3_done_19 ?_
  refine lv_istore (lv' := [(4, .int (x2 - x3)), (3, .int x1), (0, .ref (zh G)), (1, .int a1), (2, .int a2)]) hx hb dX3_done_20 hl (by decide) rfl (fun ls hl => ?_)
  refine lv_aload_n hx hb dX3_done_22 rfl (lv_at hl 2 rfl) ?_
  refine m_ga (k := 58) (d := 0) C q1756 rfl (by decide) hX dX3_done_23 ?_
  refine lv_iload_n hx hb dX3_done_26 rfl (lv_at hl 3 rfl) ?_
  obtain ⟨x4, e4, hr⟩ := ob hr
  refine m_ia (k := 58) C rfl hX e4 dX3_done_27 ?_
  refine lv_iload hx hb dX3_done_28 (lv_at hl 0 rfl) ?_
  obtain ⟨x5, r5, hr⟩ := ob hr
  refine m_join (I := fun (t6 : Int32) H locs ls => x5 = t6 ∧ mX G S H ∧ va_S (zA G) s.heap H locs ∧ lv_has ls 6 [(0, .ref (zh G)), (1, .int a1), (2, .int a2), (3, .int x1)]) 44 (fun t6 => [.int t6]) (fun t6 H locs ls hi => ?_) (fun J5 => ?_)
  · obtain ⟨rfl, hX, hS, hl⟩ := hi
    unfold fm_done_k44 at hr
    refine lv_istore (lv' := [(5, .int x5), (0, .ref (zh G)), (1, .int a1), (2, .int a2), (3, .int x1)]) hx hb dX3_done_44 hl (by decide) rfl (fun ls hl => ?_)
    refine lv_aload_n hx hb dX3_done_46 rfl (lv_at hl 1 rfl) ?_
    refine m_ga (k := 60) (d := 1) C q1758 rfl (by decide) hX dX3_done_47 ?_
    refine lv_iload_n hx hb dX3_done_50 rfl (lv_at hl 2 rfl) ?_
    refine lv_iconst (v := 1) hx hb dX3_done_51 (by decide) ?_
    obtain ⟨x10, e10, hr⟩ := ob hr
    refine m_zs (k := 60) C rfl hX hS e10 dX3_done_52 (fun H locs hX hS => ?_)
    refine lv_aload_n hx hb dX3_done_53 rfl (lv_at hl 1 rfl) ?_
    refine m_ga (k := 66) (d := 0) C q1764 rfl (by decide) hX dX3_done_54 ?_
    refine lv_iload_n hx hb dX3_done_57 rfl (lv_at hl 2 rfl) ?_
    refine lv_iload_n hx hb dX3_done_58 rfl (lv_at hl 3 rfl) ?_
    obtain ⟨x11, e11, hr⟩ := ob hr
    refine m_is (k := 66) C rfl hX hS e11 dX3_done_59 (fun H locs hX hS => ?_)
    refine lv_aload_n hx hb dX3_done_60 rfl (lv_at hl 1 rfl) ?_
    refine m_ga (k := 68) (d := 0) C q1766 rfl (by decide) hX dX3_done_61 ?_
    refine lv_iload_n hx hb dX3_done_64 rfl (lv_at hl 2 rfl) ?_
    refine lv_iload hx hb dX3_done_65 (lv_at hl 0 rfl) ?_
    obtain ⟨x12, e12, hr⟩ := ob hr
    refine m_is (k := 68) C rfl hX hS e12 dX3_done_67 (fun H locs hX hS => ?_)
    refine lv_aload_n hx hb dX3_done_68 rfl (lv_at hl 1 rfl) ?_
    refine m_ga (k := 69) (d := 0) C q1767 rfl (by decide) hX dX3_done_69 ?_
    refine lv_iload_n hx hb dX3_done_72 rfl (lv_at hl 4 rfl) ?_
    refine lv_dup2_11 hx hb dX3_done_73 rfl rfl ?_
    obtain ⟨x13, e13, hr⟩ := ob hr
    refine m_ia (k := 69) C rfl hX e13 dX3_done_74 ?_
    refine lv_iload hx hb dX3_done_75 (lv_at hl 0 rfl) ?_
    refine lv_iadd hx hb dX3_done_77 ?_
    obtain ⟨x14, e14, hr⟩ := ob hr
    refine m_is (k := 69) C rfl hX hS e14 dX3_done_78 (fun H locs hX hS => ?_)
    refine lv_aload_n hx hb dX3_done_79 rfl (lv_at hl 1 rfl) ?_
    refine m_ga (k := 70) (d := 0) C q1768 rfl (by decide) hX dX3_done_80 ?_
    refine lv_iload_n hx hb dX3_done_83 rfl (lv_at hl 4 rfl) ?_
    refine lv_dup2_11 hx hb dX3_done_84 rfl rfl ?_
    obtain ⟨x15, e15, hr⟩ := ob hr
    refine m_ia (k := 70) C rfl hX e15 dX3_done_85 ?_
    refine lv_aload_n hx hb dX3_done_86 rfl (lv_at hl 1 rfl) ?_
    refine m_ga (k := 58) (d := 0) C q1756 rfl (by decide) hX dX3_done_87 ?_
    refine lv_iload_n hx hb dX3_done_90 rfl (lv_at hl 2 rfl) ?_
    obtain ⟨x16, e16, hr⟩ := ob hr
    refine m_ia (k := 58) C rfl hX e16 dX3_done_91 ?_
    refine lv_iload hx hb dX3_done_92 (lv_at hl 0 rfl) ?_
    refine lv_isub hx hb dX3_done_94 ?_
    refine lv_iadd hx hb dX3_done_95 ?_
    obtain ⟨x17, e17, hr⟩ := ob hr
    refine m_is (k := 70) C rfl hX hS e17 dX3_done_96 (fun H locs hX hS => ?_)
    exact m_rvw (C := C) hret hlk hX hS (Option.some.inj hr) dX3_done_97
  · refine lv_icmp_ge (tgt := 42) hx hb dX3_done_30 (by decide) (fun c7 => ?_) (fun c7 => ?_)
    · replace r5 := it c7 r5
      refine lv_iload hx hb dX3_done_42 (lv_at hl 0 rfl) ?_
      obtain ⟨g8, hg8⟩ : ∃ g, g = (x2 - x3) := ⟨_, rfl⟩
      rw [← hg8] at ⊢ r5
      exact J5 _ _ _ ls ⟨(Option.some.inj r5).symm, hX, hS, lv_sub hl [2, 3, 4, 1] rfl⟩
    · replace r5 := ie c7 r5
      refine lv_aload_n hx hb dX3_done_33 rfl (lv_at hl 2 rfl) ?_
      refine m_ga (k := 58) (d := 0) C q1756 rfl (by decide) hX dX3_done_34 ?_
      refine lv_iload_n hx hb dX3_done_37 rfl (lv_at hl 3 rfl) ?_
      obtain ⟨x9, e9, r5⟩ := ob r5
      refine m_ia (k := 58) C rfl hX e9 dX3_done_38 ?_
      refine lv_goto (tgt := 44) hx hb dX3_done_39 (by decide) ?_
      exact J5 _ _ _ ls ⟨(Option.some.inj r5).symm, hX, hS, lv_sub hl [2, 3, 4, 1] rfl⟩

def fm_isCalledBack_l22  (t4 : mS × Int32 × Int32) : Option ((mS × Int32 × Int32) ⊕ (mS × Int32)) :=
  (if (gI t4.1 35) ≤ t4.2.2 then
  some (.inr (t4.1, t4.2.1))
  else
  (((if t4.2.1 = 0 then
  (aI t4.1 36 t4.2.2).bind fun x11 =>
  (if x11 = (3 : Int32) then
  (fm_worked t4.1 t4.2.2).bind fun x13 =>
  (if x13.2 = (1 : Int32) then
  some (x13.1, (1 : Int32))
  else
  some (x13.1, (0 : Int32)))
  else
  some (t4.1, (0 : Int32)))
  else
  some (t4.1, (1 : Int32))) : Option (mS × Int32))).bind (fun x8 =>
  some (.inl (x8.1, x8.2, (t4.2.2 + (1 : Int32))))))
def fm_isCalledBack (S : mS) (a1 : Int32) (a2 : Int32) : Option (mS × Int32) :=
  (aI S 55 a1).bind fun x1 =>
  (aI S 58 a1).bind fun x2 =>
  (fm_sets S x1 a2 x2).bind fun x3 =>
  (loopO fm_isCalledBack_l22 1000000 (x3, (0 : Int32), (0 : Int32))).bind (fun z6 =>
  (zR z6.2).bind fun x16 => some (z6.1, x16))
set_option maxHeartbeats 4000000 in
set_option maxRecDepth 100000 in
theorem cm_isCalledBack (l : Launch) (G : mGh) (hG : mOk G) (S : mS) (a1 : Int32) (a2 : Int32) {S' : mS} {r : Int32} (hr : fm_isCalledBack S a1 a2 = some (S', r)) : Met l yX3_isCalledBack (ws_ yX3_isCalledBack cX3_isCalledBack 5 (some .boolean)) ({ frames := 3, cells := 0, slots := 0, locals := 70 } : Room) (mPc G [.int a1, .int a2] S) (mQi G r S') 0 0 (zA G) := by
  refine m_met cX3_isCalledBack (by decide) rfl hG (Nat.le_of_ble_eq_true rfl) (fun p e s m args below meth c C hret hlk ls hX hl => ?_)
  have hx := C.1.1
  have hb := C.1.2.1
  have hown := C.1.2.2.2.1
  have hts := C.1.2.2.2.2
  have hS : va_S (zA G) s.heap s.heap [] := va_S.rf
  have hl : lv_has ls 5 [(0, .ref (zh G)), (1, .int a1), (2, .int a2)] := hl
  unfold fm_isCalledBack at hr
  refine lv_aload_n hx hb dX3_isCalledBack_0 rfl (lv_at hl 0 rfl) ?_
  refine lv_aload_n hx hb dX3_isCalledBack_1 rfl (lv_at hl 0 rfl) ?_
  refine m_ga (k := 55) (d := 0) C q1753 rfl (by decide) hX dX3_isCalledBack_2 ?_
  refine lv_iload_n hx hb dX3_isCalledBack_5 rfl (lv_at hl 1 rfl) ?_
  obtain ⟨x1, e1, hr⟩ := ob hr
  refine m_ia (k := 55) C rfl hX e1 dX3_isCalledBack_6 ?_
  refine lv_iload_n hx hb dX3_isCalledBack_7 rfl (lv_at hl 2 rfl) ?_
  refine lv_aload_n hx hb dX3_isCalledBack_8 rfl (lv_at hl 0 rfl) ?_
  refine m_ga (k := 58) (d := 0) C q1756 rfl (by decide) hX dX3_isCalledBack_9 ?_
  refine lv_iload_n hx hb dX3_isCalledBack_12 rfl (lv_at hl 1 rfl) ?_
  obtain ⟨x2, e2, hr⟩ := ob hr
  refine m_ia (k := 58) C rfl hX e2 dX3_isCalledBack_13 ?_
  obtain ⟨x3, e3, hr⟩ := ob hr
  refine m_cvv (As := [.int x1, .int a2, .int x2]) (rest := []) C hX hS hl.1 (cm_sets l G hG S x1 a2 x2 e3) (cwV 3 hts (lw_V q2217 q2219 qs81 q109 q2220) rfl rfl rfl (by decide +kernel) ⟨Nat.le_of_ble_eq_true rfl, Nat.le_of_ble_eq_true rfl⟩) rfl rfl (Nat.le_of_ble_eq_true rfl) dX3_isCalledBack_14 (fun H locs hX hS => ?_)
  refine lv_iconst (v := 0) hx hb dX3_isCalledBack_17 (by decide) ?_
  refine lv_istore_n (lv' := [(3, .int (0 : Int32)), (0, .ref (zh G)), (1, .int a1), (2, .int a2)]) hx hb dX3_isCalledBack_18 rfl hl (by decide) rfl (fun ls hl => ?_)
  refine lv_iconst (v := 0) hx hb dX3_isCalledBack_19 (by decide) ?_
  refine lv_istore (lv' := [(4, .int (0 : Int32)), (3, .int (0 : Int32)), (0, .ref (zh G)), (1, .int a1), (2, .int a2)]) hx hb dX3_isCalledBack_20 hl (by decide) rfl (fun ls hl => ?_)
  obtain ⟨z6, e6, hr⟩ := ob hr
  refine m_join (I := fun (_ : Unit) H locs ls => mX G z6.1 H ∧ va_S (zA G) s.heap H locs ∧ lv_has ls 5 [(3, .int z6.2)]) 68 (fun _ => []) (fun _ H locs ls hi => ?_) (fun J4_68 => ?_)
  · obtain ⟨hX, hS, hl⟩ := hi
    refine lv_iload_n hx hb dX3_isCalledBack_68 rfl (lv_at hl 0 rfl) ?_
    obtain ⟨x16, e16, hr⟩ := ob hr
    obtain ⟨qe16, rfl⟩ := zR_s e16
    exact m_rzw (C := C) hret hlk hX hS qe16 (Option.some.inj hr) dX3_isCalledBack_69
  refine m_loop e6 (fun (t4 : mS × Int32 × Int32) H locs ls => mX G t4.1 H ∧ va_S (zA G) s.heap H locs ∧ lv_has ls 5 [(0, .ref (zh G)), (3, .int t4.2.1), (4, .int t4.2.2)]) 22 ⟨hX, hS, lv_sub hl [2, 1, 0] rfl⟩ (fun t4 y4 b4 w4 k4 H locs ls hi => ?_)
  obtain ⟨hX, hS, hl⟩ := hi
  unfold fm_isCalledBack_l22 at b4
  refine lv_iload hx hb dX3_isCalledBack_22 (lv_at hl 2 rfl) ?_
  refine lv_aload_n hx hb dX3_isCalledBack_24 rfl (lv_at hl 0 rfl) ?_
  refine m_gi (k := 35) C q1733 rfl hX dX3_isCalledBack_25 ?_
  refine lv_icmp_ge (tgt := 68) hx hb dX3_isCalledBack_28 (by decide) (fun c7 => ?_) (fun c7 => ?_)
  · replace b4 := it c7 b4
    replace b4 := lx b4 w4
    subst b4
    exact J4_68 () _ _ ls ⟨hX, hS, lv_sub hl [1] rfl⟩
  · replace b4 := ie c7 b4
    refine lv_iload_n hx hb dX3_isCalledBack_31 rfl (lv_at hl 1 rfl) ?_
    obtain ⟨x8, r8, b4⟩ := ob b4
    refine m_join (I := fun (t9 : mS × Int32) H locs ls => x8 = t9 ∧ mX G t9.1 H ∧ va_S (zA G) s.heap H locs ∧ lv_has ls 5 [(0, .ref (zh G)), (4, .int t4.2.2)]) 61 (fun t9 => [.int t9.2]) (fun t9 H locs ls hi => ?_) (fun J8 => ?_)
    · obtain ⟨rfl, hX, hS, hl⟩ := hi
      refine lv_istore_n (lv' := [(3, .int x8.2), (0, .ref (zh G)), (4, .int t4.2.2)]) hx hb dX3_isCalledBack_61 rfl hl (by decide) rfl (fun ls hl => ?_)
      refine lv_iinc (v := (t4.2.2 + (1 : Int32))) (k := 2) (lv' := [(4, .int (t4.2.2 + (1 : Int32))), (3, .int x8.2), (0, .ref (zh G))]) hx hb dX3_isCalledBack_62 hl rfl rfl (by decide) rfl (fun ls hl => ?_)
      refine lv_goto (tgt := 22) hx hb dX3_isCalledBack_65 (by decide) ?_
      obtain ⟨g15, hg15⟩ : ∃ g, g = (t4.2.2 + (1 : Int32)) := ⟨_, rfl⟩
      rw [← hg15] at hl b4
      exact k4 _ (Option.some.inj b4).symm _ _ ls ⟨hX, hS, lv_sub hl [2, 1, 0] rfl⟩
    · refine lv_if_ne (tgt := 56) hx hb dX3_isCalledBack_32 (by decide) (fun c10 => ?_) (fun c10 => ?_)
      · replace r8 := ie c10 r8
        refine lv_iconst (v := 1) hx hb dX3_isCalledBack_56 (by decide) ?_
        refine lv_goto (tgt := 61) hx hb dX3_isCalledBack_57 (by decide) ?_
        exact J8 _ _ _ ls ⟨(Option.some.inj r8).symm, hX, hS, lv_sub hl [0, 2] rfl⟩
      · replace r8 := it c10 r8
        refine lv_aload_n hx hb dX3_isCalledBack_35 rfl (lv_at hl 0 rfl) ?_
        refine m_ga (k := 36) (d := 0) C q1734 rfl (by decide) hX dX3_isCalledBack_36 ?_
        refine lv_iload hx hb dX3_isCalledBack_39 (lv_at hl 2 rfl) ?_
        obtain ⟨x11, e11, r8⟩ := ob r8
        refine m_ia (k := 36) C rfl hX e11 dX3_isCalledBack_41 ?_
        refine lv_iconst (v := 3) hx hb dX3_isCalledBack_42 (by decide) ?_
        refine lv_icmp_ne (tgt := 60) hx hb dX3_isCalledBack_43 (by decide) (fun c12 => ?_) (fun c12 => ?_)
        · replace r8 := ie c12 r8
          refine lv_iconst (v := 0) hx hb dX3_isCalledBack_60 (by decide) ?_
          exact J8 _ _ _ ls ⟨(Option.some.inj r8).symm, hX, hS, lv_sub hl [0, 2] rfl⟩
        · replace r8 := it c12 r8
          refine lv_aload_n hx hb dX3_isCalledBack_46 rfl (lv_at hl 0 rfl) ?_
          refine lv_iload hx hb dX3_isCalledBack_47 (lv_at hl 2 rfl) ?_
          obtain ⟨x13, e13, r8⟩ := ob r8
          refine m_cvi (As := [.int t4.2.2]) (rest := []) C hX hS hl.1 (cm_worked l G hG t4.1 t4.2.2 e13) (cwV 1 hts (lw_V q2225 q2227 qs83 q109 q2228) rfl rfl rfl (by decide +kernel) ⟨Nat.le_of_ble_eq_true rfl, Nat.le_of_ble_eq_true rfl⟩) rfl rfl (Nat.le_of_ble_eq_true rfl) dX3_isCalledBack_49 (fun H locs hX hS => ?_)
          refine lv_iconst (v := 1) hx hb dX3_isCalledBack_52 (by decide) ?_
          refine lv_icmp_ne (tgt := 60) hx hb dX3_isCalledBack_53 (by decide) (fun c14 => ?_) (fun c14 => ?_)
          · replace r8 := ie c14 r8
            refine lv_iconst (v := 0) hx hb dX3_isCalledBack_60 (by decide) ?_
            exact J8 _ _ _ ls ⟨(Option.some.inj r8).symm, hX, hS, lv_sub hl [0, 2] rfl⟩
          · replace r8 := it c14 r8
            refine lv_iconst (v := 1) hx hb dX3_isCalledBack_56 (by decide) ?_
            refine lv_goto (tgt := 61) hx hb dX3_isCalledBack_57 (by decide) ?_
            exact J8 _ _ _ ls ⟨(Option.some.inj r8).symm, hX, hS, lv_sub hl [0, 2] rfl⟩

def fm_bearsOne_k68 (S : mS) (a1 : Int32) (z3 : Int32) : Option (Int32) :=
  (aI S 8 a1).bind fun x17 =>
  (if x17 = 0 then
  some (0 : Int32)
  else
  (if z3 = 0 then
  some (0 : Int32)
  else
  some (1 : Int32)))
def fm_bearsOne_l4 (S : mS) (a1 : Int32) (t1 : Int32 × Int32) : Option ((Int32 × Int32) ⊕ (Int32)) :=
  (if (gI S 54) ≤ t1.2 then
  some (.inr t1.1)
  else
  (((if t1.1 = 0 then
  (aI S 59 t1.2).bind fun x8 =>
  (if x8 = 0 then
  some (0 : Int32)
  else
  (aI S 65 t1.2).bind fun x10 =>
  (if x10 = (-4 : Int32) then
  some (0 : Int32)
  else
  (aI S 55 t1.2).bind fun x12 =>
  (aI S 62 t1.2).bind fun x13 =>
  (fm_stepAt S x12 x13).bind fun x14 =>
  (if x14 = a1 then
  some (1 : Int32)
  else
  some (0 : Int32))))
  else
  some (1 : Int32)) : Option (Int32))).bind (fun x5 =>
  some (.inl (x5, (t1.2 + (1 : Int32))))))
def fm_bearsOne (S : mS) (a1 : Int32) : Option Int32 :=
  (loopO (fm_bearsOne_l4 S a1) 1000000 ((0 : Int32), (0 : Int32))).bind (fun z3 => fm_bearsOne_k68 S a1 z3)
set_option maxHeartbeats 4000000 in
set_option maxRecDepth 100000 in
theorem cm_bearsOne (l : Launch) (G : mGh) (hG : mOk G) (S : mS) (a1 : Int32) {r : Int32} (hr : fm_bearsOne S a1 = some r) : Met l yX3_bearsOne (ws_ yX3_bearsOne cX3_bearsOne 4 (some .boolean)) ({ frames := 1, cells := 0, slots := 0, locals := 22 } : Room) (mPc G [.int a1] S) (mQi G r S) 0 0 (zA G) := by
  refine m_met cX3_bearsOne (by decide) rfl hG (Nat.le_of_ble_eq_true rfl) (fun p e s m args below meth c C hret hlk ls hX hl => ?_)
  have hx := C.1.1
  have hb := C.1.2.1
  have hown := C.1.2.2.2.1
  have hts := C.1.2.2.2.2
  have hS : va_S (zA G) s.heap s.heap [] := va_S.rf
  have hl : lv_has ls 4 [(0, .ref (zh G)), (1, .int a1)] := hl
  unfold fm_bearsOne at hr
  refine lv_iconst (v := 0) hx hb dX3_bearsOne_0 (by decide) ?_
  refine lv_istore_n (lv' := [(2, .int (0 : Int32)), (0, .ref (zh G)), (1, .int a1)]) hx hb dX3_bearsOne_1 rfl hl (by decide) rfl (fun ls hl => ?_)
  refine lv_iconst (v := 0) hx hb dX3_bearsOne_2 (by decide) ?_
  refine lv_istore_n (lv' := [(3, .int (0 : Int32)), (2, .int (0 : Int32)), (0, .ref (zh G)), (1, .int a1)]) hx hb dX3_bearsOne_3 rfl hl (by decide) rfl (fun ls hl => ?_)
  obtain ⟨z3, e3, hr⟩ := ob hr
  refine m_join (I := fun (_ : Unit) H locs ls => mX G S H ∧ va_S (zA G) s.heap H locs ∧ lv_has ls 4 [(0, .ref (zh G)), (1, .int a1), (2, .int z3)]) 68 (fun _ => []) (fun _ H locs ls hi => ?_) (fun J1_68 => ?_)
  · obtain ⟨hX, hS, hl⟩ := hi
    unfold fm_bearsOne_k68 at hr
    refine lv_aload_n hx hb dX3_bearsOne_68 rfl (lv_at hl 0 rfl) ?_
    refine m_ga (k := 8) (d := 1) C q1706 rfl (by decide) hX dX3_bearsOne_69 ?_
    refine lv_iload_n hx hb dX3_bearsOne_72 rfl (lv_at hl 1 rfl) ?_
    obtain ⟨x17, e17, hr⟩ := ob hr
    refine m_za (k := 8) C rfl hX e17 dX3_bearsOne_73 ?_
    refine lv_if_eq (tgt := 85) hx hb dX3_bearsOne_74 (by decide) (fun c18 => ?_) (fun c18 => ?_)
    · replace hr := it c18 hr
      refine lv_iconst (v := 0) hx hb dX3_bearsOne_85 (by decide) ?_
      exact m_rz (C := C) hret hlk hX hS (by decide) (Option.some.inj hr) dX3_bearsOne_86
    · replace hr := ie c18 hr
      refine lv_iload_n hx hb dX3_bearsOne_77 rfl (lv_at hl 2 rfl) ?_
      refine lv_if_eq (tgt := 85) hx hb dX3_bearsOne_78 (by decide) (fun c19 => ?_) (fun c19 => ?_)
      · replace hr := it c19 hr
        refine lv_iconst (v := 0) hx hb dX3_bearsOne_85 (by decide) ?_
        exact m_rz (C := C) hret hlk hX hS (by decide) (Option.some.inj hr) dX3_bearsOne_86
      · replace hr := ie c19 hr
        refine lv_iconst (v := 1) hx hb dX3_bearsOne_81 (by decide) ?_
        refine lv_goto (tgt := 86) hx hb dX3_bearsOne_82 (by decide) ?_
        exact m_rz (C := C) hret hlk hX hS (by decide) (Option.some.inj hr) dX3_bearsOne_86
  refine m_loop e3 (fun (t1 : Int32 × Int32) H locs ls => mX G S H ∧ va_S (zA G) s.heap H locs ∧ lv_has ls 4 [(0, .ref (zh G)), (1, .int a1), (2, .int t1.1), (3, .int t1.2)]) 4 ⟨hX, hS, lv_sub hl [2, 3, 1, 0] rfl⟩ (fun t1 y1 b1 w1 k1 H locs ls hi => ?_)
  obtain ⟨hX, hS, hl⟩ := hi
  unfold fm_bearsOne_l4 at b1
  refine lv_iload_n hx hb dX3_bearsOne_4 rfl (lv_at hl 3 rfl) ?_
  refine lv_aload_n hx hb dX3_bearsOne_5 rfl (lv_at hl 0 rfl) ?_
  refine m_gi (k := 54) C q1752 rfl hX dX3_bearsOne_6 ?_
  refine lv_icmp_ge (tgt := 68) hx hb dX3_bearsOne_9 (by decide) (fun c4 => ?_) (fun c4 => ?_)
  · replace b1 := it c4 b1
    replace b1 := lx b1 w1
    subst b1
    exact J1_68 () _ _ ls ⟨hX, hS, lv_sub hl [0, 1, 2] rfl⟩
  · replace b1 := ie c4 b1
    refine lv_iload_n hx hb dX3_bearsOne_12 rfl (lv_at hl 2 rfl) ?_
    obtain ⟨x5, r5, b1⟩ := ob b1
    refine m_join (I := fun (t6 : Int32) H locs ls => x5 = t6 ∧ mX G S H ∧ va_S (zA G) s.heap H locs ∧ lv_has ls 4 [(0, .ref (zh G)), (1, .int a1), (3, .int t1.2)]) 61 (fun t6 => [.int t6]) (fun t6 H locs ls hi => ?_) (fun J5 => ?_)
    · obtain ⟨rfl, hX, hS, hl⟩ := hi
      refine lv_istore_n (lv' := [(2, .int x5), (0, .ref (zh G)), (1, .int a1), (3, .int t1.2)]) hx hb dX3_bearsOne_61 rfl hl (by decide) rfl (fun ls hl => ?_)
      refine lv_iinc (v := (t1.2 + (1 : Int32))) (k := 3) (lv' := [(3, .int (t1.2 + (1 : Int32))), (2, .int x5), (0, .ref (zh G)), (1, .int a1)]) hx hb dX3_bearsOne_62 hl rfl rfl (by decide) rfl (fun ls hl => ?_)
      refine lv_goto (tgt := 4) hx hb dX3_bearsOne_65 (by decide) ?_
      obtain ⟨g16, hg16⟩ : ∃ g, g = (t1.2 + (1 : Int32)) := ⟨_, rfl⟩
      rw [← hg16] at hl b1
      exact k1 _ (Option.some.inj b1).symm _ _ ls ⟨hX, hS, lv_sub hl [2, 3, 1, 0] rfl⟩
    · refine lv_if_ne (tgt := 56) hx hb dX3_bearsOne_13 (by decide) (fun c7 => ?_) (fun c7 => ?_)
      · replace r5 := ie c7 r5
        refine lv_iconst (v := 1) hx hb dX3_bearsOne_56 (by decide) ?_
        refine lv_goto (tgt := 61) hx hb dX3_bearsOne_57 (by decide) ?_
        exact J5 _ _ _ ls ⟨(Option.some.inj r5).symm, hX, hS, lv_sub hl [0, 1, 3] rfl⟩
      · replace r5 := it c7 r5
        refine lv_aload_n hx hb dX3_bearsOne_16 rfl (lv_at hl 0 rfl) ?_
        refine m_ga (k := 59) (d := 1) C q1757 rfl (by decide) hX dX3_bearsOne_17 ?_
        refine lv_iload_n hx hb dX3_bearsOne_20 rfl (lv_at hl 3 rfl) ?_
        obtain ⟨x8, e8, r5⟩ := ob r5
        refine m_za (k := 59) C rfl hX e8 dX3_bearsOne_21 ?_
        refine lv_if_eq (tgt := 60) hx hb dX3_bearsOne_22 (by decide) (fun c9 => ?_) (fun c9 => ?_)
        · replace r5 := it c9 r5
          refine lv_iconst (v := 0) hx hb dX3_bearsOne_60 (by decide) ?_
          exact J5 _ _ _ ls ⟨(Option.some.inj r5).symm, hX, hS, lv_sub hl [0, 1, 3] rfl⟩
        · replace r5 := ie c9 r5
          refine lv_aload_n hx hb dX3_bearsOne_25 rfl (lv_at hl 0 rfl) ?_
          refine m_ga (k := 65) (d := 0) C q1763 rfl (by decide) hX dX3_bearsOne_26 ?_
          refine lv_iload_n hx hb dX3_bearsOne_29 rfl (lv_at hl 3 rfl) ?_
          obtain ⟨x10, e10, r5⟩ := ob r5
          refine m_ia (k := 65) C rfl hX e10 dX3_bearsOne_30 ?_
          refine lv_bipush (v := -4) hx hb dX3_bearsOne_31 (by decide) ?_
          refine lv_icmp_eq (tgt := 60) hx hb dX3_bearsOne_33 (by decide) (fun c11 => ?_) (fun c11 => ?_)
          · replace r5 := it c11 r5
            refine lv_iconst (v := 0) hx hb dX3_bearsOne_60 (by decide) ?_
            exact J5 _ _ _ ls ⟨(Option.some.inj r5).symm, hX, hS, lv_sub hl [0, 1, 3] rfl⟩
          · replace r5 := ie c11 r5
            refine lv_aload_n hx hb dX3_bearsOne_36 rfl (lv_at hl 0 rfl) ?_
            refine lv_aload_n hx hb dX3_bearsOne_37 rfl (lv_at hl 0 rfl) ?_
            refine m_ga (k := 55) (d := 0) C q1753 rfl (by decide) hX dX3_bearsOne_38 ?_
            refine lv_iload_n hx hb dX3_bearsOne_41 rfl (lv_at hl 3 rfl) ?_
            obtain ⟨x12, e12, r5⟩ := ob r5
            refine m_ia (k := 55) C rfl hX e12 dX3_bearsOne_42 ?_
            refine lv_aload_n hx hb dX3_bearsOne_43 rfl (lv_at hl 0 rfl) ?_
            refine m_ga (k := 62) (d := 0) C q1760 rfl (by decide) hX dX3_bearsOne_44 ?_
            refine lv_iload_n hx hb dX3_bearsOne_47 rfl (lv_at hl 3 rfl) ?_
            obtain ⟨x13, e13, r5⟩ := ob r5
            refine m_ia (k := 62) C rfl hX e13 dX3_bearsOne_48 ?_
            obtain ⟨x14, e14, r5⟩ := ob r5
            refine m_cvi (As := [.int x12, .int x13]) (rest := []) C hX hS hl.1 (cm_stepAt l G hG S x12 x13 e14) (cwV 2 hts (lw_V q2011 q2013 qs54 q109 q2014) rfl rfl rfl (by decide +kernel) ⟨Nat.le_of_ble_eq_true rfl, Nat.le_of_ble_eq_true rfl⟩) rfl rfl (Nat.le_of_ble_eq_true rfl) dX3_bearsOne_49 (fun H locs hX hS => ?_)
            refine lv_iload_n hx hb dX3_bearsOne_52 rfl (lv_at hl 1 rfl) ?_
            refine lv_icmp_ne (tgt := 60) hx hb dX3_bearsOne_53 (by decide) (fun c15 => ?_) (fun c15 => ?_)
            · replace r5 := ie c15 r5
              refine lv_iconst (v := 0) hx hb dX3_bearsOne_60 (by decide) ?_
              exact J5 _ _ _ ls ⟨(Option.some.inj r5).symm, hX, hS, lv_sub hl [0, 1, 3] rfl⟩
            · replace r5 := it c15 r5
              refine lv_iconst (v := 1) hx hb dX3_bearsOne_56 (by decide) ?_
              refine lv_goto (tgt := 61) hx hb dX3_bearsOne_57 (by decide) ?_
              exact J5 _ _ _ ls ⟨(Option.some.inj r5).symm, hX, hS, lv_sub hl [0, 1, 3] rfl⟩

def fm_decides (S : mS) (a1 : Int32) (a2 : Int32) : Option mS :=
  (aI S 55 a1).bind fun x1 =>
  (aI S 62 a1).bind fun x2 =>
  (aI S 10 x1).bind fun x3 =>
  (if x2 = x3 then
  (fm_done S a1 a2).bind fun x21 =>
  some x21
  else
  (aI S 62 a1).bind fun x5 =>
  (fm_stepAt S x1 x5).bind fun x6 =>
  (aI S 56 a1).bind fun x7 =>
  (fm_takesOf S x6 x7 a2).bind fun x8 =>
  (if x8 = (-5 : Int32) then
  (tZ S 61 a1 (1 : Int32)).bind fun x10 =>
  (fm_done x10 a1 a2).bind fun x11 =>
  some x11
  else
  (fm_isCalledBack S a1 a2).bind fun x12 =>
  (if x12.2 = 0 then
  (fm_bearsOne x12.1 x6).bind fun x14 =>
  (if x14 = 0 then
  (tI x12.1 65 a1 (a2 + x8)).bind fun x16 =>
  some x16
  else
  (aI x12.1 67 a1).bind fun x17 =>
  (tI x12.1 67 a1 (x17 + (1 : Int32))).bind fun x18 =>
  some x18)
  else
  (tZ x12.1 61 a1 (1 : Int32)).bind fun x19 =>
  (fm_done x19 a1 a2).bind fun x20 =>
  some x20)))
set_option maxHeartbeats 4000000 in
set_option maxRecDepth 100000 in
theorem cm_decides (l : Launch) (G : mGh) (hG : mOk G) (S : mS) (a1 : Int32) (a2 : Int32) {S' : mS} (hr : fm_decides S a1 a2 = some S') : Met l yX3_decides (ws_ yX3_decides cX3_decides 6 none) ({ frames := 4, cells := 0, slots := 0, locals := 94 } : Room) (mPc G [.int a1, .int a2] S) (mQv G S') 0 0 (zA G) := by
  refine m_met cX3_decides (by decide) rfl hG (Nat.le_of_ble_eq_true rfl) (fun p e s m args below meth c C hret hlk ls hX hl => ?_)
  have hx := C.1.1
  have hb := C.1.2.1
  have hown := C.1.2.2.2.1
  have hts := C.1.2.2.2.2
  have hS : va_S (zA G) s.heap s.heap [] := va_S.rf
  have hl : lv_has ls 6 [(0, .ref (zh G)), (1, .int a1), (2, .int a2)] := hl
  unfold fm_decides at hr
  refine lv_aload_n hx hb dX3_decides_0 rfl (lv_at hl 0 rfl) ?_
  refine m_ga (k := 55) (d := 0) C q1753 rfl (by decide) hX dX3_decides_1 ?_
  refine lv_iload_n hx hb dX3_decides_4 rfl (lv_at hl 1 rfl) ?_
  obtain ⟨x1, e1, hr⟩ := ob hr
  refine m_ia (k := 55) C rfl hX e1 dX3_decides_5 ?_
  refine lv_istore_n (lv' := [(3, .int x1), (0, .ref (zh G)), (1, .int a1), (2, .int a2)]) hx hb dX3_decides_6 rfl hl (by decide) rfl (fun ls hl => ?_)
  refine lv_aload_n hx hb dX3_decides_7 rfl (lv_at hl 1 rfl) ?_
  refine m_ga (k := 62) (d := 0) C q1760 rfl (by decide) hX dX3_decides_8 ?_
  refine lv_iload_n hx hb dX3_decides_11 rfl (lv_at hl 2 rfl) ?_
  obtain ⟨x2, e2, hr⟩ := ob hr
  refine m_ia (k := 62) C rfl hX e2 dX3_decides_12 ?_
  refine lv_aload_n hx hb dX3_decides_13 rfl (lv_at hl 1 rfl) ?_
  refine m_ga (k := 10) (d := 0) C q1708 rfl (by decide) hX dX3_decides_14 ?_
  refine lv_iload_n hx hb dX3_decides_17 rfl (lv_at hl 0 rfl) ?_
  obtain ⟨x3, e3, hr⟩ := ob hr
  refine m_ia (k := 10) C rfl hX e3 dX3_decides_18 ?_
  refine lv_icmp_ne (tgt := 29) hx hb dX3_decides_19 (by decide) (fun c4 => ?_) (fun c4 => ?_)
  · replace hr := ie c4 hr
    refine lv_aload_n hx hb dX3_decides_29 rfl (lv_at hl 1 rfl) ?_
    refine lv_iload_n hx hb dX3_decides_30 rfl (lv_at hl 0 rfl) ?_
    refine lv_aload_n hx hb dX3_decides_31 rfl (lv_at hl 1 rfl) ?_
    refine m_ga (k := 62) (d := 0) C q1760 rfl (by decide) hX dX3_decides_32 ?_
    refine lv_iload_n hx hb dX3_decides_35 rfl (lv_at hl 2 rfl) ?_
    obtain ⟨x5, e5, hr⟩ := ob hr
    refine m_ia (k := 62) C rfl hX e5 dX3_decides_36 ?_
    obtain ⟨x6, e6, hr⟩ := ob hr
    refine m_cvi (As := [.int x1, .int x5]) (rest := []) C hX hS hl.1 (cm_stepAt l G hG S x1 x5 e6) (cwV 2 hts (lw_V q2011 q2013 qs54 q109 q2014) rfl rfl rfl (by decide +kernel) ⟨Nat.le_of_ble_eq_true rfl, Nat.le_of_ble_eq_true rfl⟩) rfl rfl (Nat.le_of_ble_eq_true rfl) dX3_decides_37 (fun H locs hX hS => ?_)
    refine lv_istore (lv' := [(4, .int x6), (3, .int x1), (0, .ref (zh G)), (1, .int a1), (2, .int a2)]) hx hb dX3_decides_40 hl (by decide) rfl (fun ls hl => ?_)
    refine lv_aload_n hx hb dX3_decides_42 rfl (lv_at hl 2 rfl) ?_
    refine lv_iload hx hb dX3_decides_43 (lv_at hl 0 rfl) ?_
    refine lv_aload_n hx hb dX3_decides_45 rfl (lv_at hl 2 rfl) ?_
    refine m_ga (k := 56) (d := 0) C q1754 rfl (by decide) hX dX3_decides_46 ?_
    refine lv_iload_n hx hb dX3_decides_49 rfl (lv_at hl 3 rfl) ?_
    obtain ⟨x7, e7, hr⟩ := ob hr
    refine m_ia (k := 56) C rfl hX e7 dX3_decides_50 ?_
    refine lv_iload_n hx hb dX3_decides_51 rfl (lv_at hl 4 rfl) ?_
    obtain ⟨x8, e8, hr⟩ := ob hr
    refine m_cvi (As := [.int x6, .int x7, .int a2]) (rest := []) C hX hS hl.1 (cm_takesOf l G hG S x6 x7 a2 e8) (cwV 3 hts (lw_V q2071 q2073 qs60 q109 q2074) rfl rfl rfl (by decide +kernel) ⟨Nat.le_of_ble_eq_true rfl, Nat.le_of_ble_eq_true rfl⟩) rfl rfl (Nat.le_of_ble_eq_true rfl) dX3_decides_52 (fun H locs hX hS => ?_)
    refine lv_istore (lv' := [(5, .int x8), (4, .int x6), (3, .int x1), (0, .ref (zh G)), (1, .int a1), (2, .int a2)]) hx hb dX3_decides_55 hl (by decide) rfl (fun ls hl => ?_)
    refine lv_iload hx hb dX3_decides_57 (lv_at hl 0 rfl) ?_
    refine lv_bipush (v := -5) hx hb dX3_decides_59 (by decide) ?_
    refine lv_icmp_eq (tgt := 73) hx hb dX3_decides_61 (by decide) (fun c9 => ?_) (fun c9 => ?_)
    · replace hr := it c9 hr
      refine lv_aload_n hx hb dX3_decides_73 rfl (lv_at hl 3 rfl) ?_
      refine m_ga (k := 61) (d := 1) C q1759 rfl (by decide) hX dX3_decides_74 ?_
      refine lv_iload_n hx hb dX3_decides_77 rfl (lv_at hl 4 rfl) ?_
      refine lv_iconst (v := 1) hx hb dX3_decides_78 (by decide) ?_
      obtain ⟨x10, e10, hr⟩ := ob hr
      refine m_zs (k := 61) C rfl hX hS e10 dX3_decides_79 (fun H locs hX hS => ?_)
      refine lv_aload_n hx hb dX3_decides_80 rfl (lv_at hl 3 rfl) ?_
      refine lv_iload_n hx hb dX3_decides_81 rfl (lv_at hl 4 rfl) ?_
      refine lv_iload_n hx hb dX3_decides_82 rfl (lv_at hl 5 rfl) ?_
      obtain ⟨x11, e11, hr⟩ := ob hr
      refine m_cvv (As := [.int a1, .int a2]) (rest := []) C hX hS hl.1 (cm_done l G hG x10 a1 a2 e11) (cwV 2 hts (lw_V q2317 q2319 qs93 q109 q2320) rfl rfl rfl (by decide +kernel) ⟨Nat.le_of_ble_eq_true rfl, Nat.le_of_ble_eq_true rfl⟩) rfl rfl (Nat.le_of_ble_eq_true rfl) dX3_decides_83 (fun H locs hX hS => ?_)
      refine lv_goto (tgt := 121) hx hb dX3_decides_86 (by decide) ?_
      exact m_rvw (C := C) hret hlk hX hS (Option.some.inj hr) dX3_decides_121
    · replace hr := ie c9 hr
      refine lv_aload_n hx hb dX3_decides_64 rfl (lv_at hl 3 rfl) ?_
      refine lv_iload_n hx hb dX3_decides_65 rfl (lv_at hl 4 rfl) ?_
      refine lv_iload_n hx hb dX3_decides_66 rfl (lv_at hl 5 rfl) ?_
      obtain ⟨x12, e12, hr⟩ := ob hr
      refine m_cvi (As := [.int a1, .int a2]) (rest := []) C hX hS hl.1 (cm_isCalledBack l G hG S a1 a2 e12) (cwV 2 hts (lw_V q2321 q2323 qs94 q109 q2324) rfl rfl rfl (by decide +kernel) ⟨Nat.le_of_ble_eq_true rfl, Nat.le_of_ble_eq_true rfl⟩) rfl rfl (Nat.le_of_ble_eq_true rfl) dX3_decides_67 (fun H locs hX hS => ?_)
      refine lv_if_eq (tgt := 89) hx hb dX3_decides_70 (by decide) (fun c13 => ?_) (fun c13 => ?_)
      · replace hr := it c13 hr
        refine lv_aload_n hx hb dX3_decides_89 rfl (lv_at hl 3 rfl) ?_
        refine lv_iload hx hb dX3_decides_90 (lv_at hl 1 rfl) ?_
        obtain ⟨x14, e14, hr⟩ := ob hr
        refine m_cvi (As := [.int x6]) (rest := []) C hX hS hl.1 (cm_bearsOne l G hG x12.1 x6 e14) (cwV 1 hts (lw_V q2325 q2327 qs95 q109 q2328) rfl rfl rfl (by decide +kernel) ⟨Nat.le_of_ble_eq_true rfl, Nat.le_of_ble_eq_true rfl⟩) rfl rfl (Nat.le_of_ble_eq_true rfl) dX3_decides_92 (fun H locs hX hS => ?_)
        refine lv_if_eq (tgt := 111) hx hb dX3_decides_95 (by decide) (fun c15 => ?_) (fun c15 => ?_)
        · replace hr := it c15 hr
          refine lv_aload_n hx hb dX3_decides_111 rfl (lv_at hl 3 rfl) ?_
          refine m_ga (k := 65) (d := 0) C q1763 rfl (by decide) hX dX3_decides_112 ?_
          refine lv_iload_n hx hb dX3_decides_115 rfl (lv_at hl 4 rfl) ?_
          refine lv_iload_n hx hb dX3_decides_116 rfl (lv_at hl 5 rfl) ?_
          refine lv_iload hx hb dX3_decides_117 (lv_at hl 0 rfl) ?_
          refine lv_iadd hx hb dX3_decides_119 ?_
          obtain ⟨x16, e16, hr⟩ := ob hr
          refine m_is (k := 65) C rfl hX hS e16 dX3_decides_120 (fun H locs hX hS => ?_)
          exact m_rvw (C := C) hret hlk hX hS (Option.some.inj hr) dX3_decides_121
        · replace hr := ie c15 hr
          refine lv_aload_n hx hb dX3_decides_98 rfl (lv_at hl 3 rfl) ?_
          refine m_ga (k := 67) (d := 0) C q1765 rfl (by decide) hX dX3_decides_99 ?_
          refine lv_iload_n hx hb dX3_decides_102 rfl (lv_at hl 4 rfl) ?_
          refine lv_dup2_11 hx hb dX3_decides_103 rfl rfl ?_
          obtain ⟨x17, e17, hr⟩ := ob hr
          refine m_ia (k := 67) C rfl hX e17 dX3_decides_104 ?_
          refine lv_iconst (v := 1) hx hb dX3_decides_105 (by decide) ?_
          refine lv_iadd hx hb dX3_decides_106 ?_
          obtain ⟨x18, e18, hr⟩ := ob hr
          refine m_is (k := 67) C rfl hX hS e18 dX3_decides_107 (fun H locs hX hS => ?_)
          refine lv_goto (tgt := 121) hx hb dX3_decides_108 (by decide) ?_
          exact m_rvw (C := C) hret hlk hX hS (Option.some.inj hr) dX3_decides_121
      · replace hr := ie c13 hr
        refine lv_aload_n hx hb dX3_decides_73 rfl (lv_at hl 3 rfl) ?_
        refine m_ga (k := 61) (d := 1) C q1759 rfl (by decide) hX dX3_decides_74 ?_
        refine lv_iload_n hx hb dX3_decides_77 rfl (lv_at hl 4 rfl) ?_
        refine lv_iconst (v := 1) hx hb dX3_decides_78 (by decide) ?_
        obtain ⟨x19, e19, hr⟩ := ob hr
        refine m_zs (k := 61) C rfl hX hS e19 dX3_decides_79 (fun H locs hX hS => ?_)
        refine lv_aload_n hx hb dX3_decides_80 rfl (lv_at hl 3 rfl) ?_
        refine lv_iload_n hx hb dX3_decides_81 rfl (lv_at hl 4 rfl) ?_
        refine lv_iload_n hx hb dX3_decides_82 rfl (lv_at hl 5 rfl) ?_
        obtain ⟨x20, e20, hr⟩ := ob hr
        refine m_cvv (As := [.int a1, .int a2]) (rest := []) C hX hS hl.1 (cm_done l G hG x19 a1 a2 e20) (cwV 2 hts (lw_V q2317 q2319 qs93 q109 q2320) rfl rfl rfl (by decide +kernel) ⟨Nat.le_of_ble_eq_true rfl, Nat.le_of_ble_eq_true rfl⟩) rfl rfl (Nat.le_of_ble_eq_true rfl) dX3_decides_83 (fun H locs hX hS => ?_)
        refine lv_goto (tgt := 121) hx hb dX3_decides_86 (by decide) ?_
        exact m_rvw (C := C) hret hlk hX hS (Option.some.inj hr) dX3_decides_121
  · replace hr := it c4 hr
    refine lv_aload_n hx hb dX3_decides_22 rfl (lv_at hl 1 rfl) ?_
    refine lv_iload_n hx hb dX3_decides_23 rfl (lv_at hl 2 rfl) ?_
    refine lv_iload_n hx hb dX3_decides_24 rfl (lv_at hl 3 rfl) ?_
    obtain ⟨x21, e21, hr⟩ := ob hr
    refine m_cvv (As := [.int a1, .int a2]) (rest := []) C hX hS hl.1 (cm_done l G hG S a1 a2 e21) (cwV 2 hts (lw_V q2317 q2319 qs93 q109 q2320) rfl rfl rfl (by decide +kernel) ⟨Nat.le_of_ble_eq_true rfl, Nat.le_of_ble_eq_true rfl⟩) rfl rfl (Nat.le_of_ble_eq_true rfl) dX3_decides_25 (fun H locs hX hS => ?_)
    exact m_rvw (C := C) hret hlk hX hS (Option.some.inj hr) dX3_decides_28

def fm_quarter_k200 (t40 : mS × Int32) (t44 : Int32 × Int32) (x49 : Int32) : Option ((Int32 × Int32) ⊕ (Int32)) :=
  (((if x49 = 0 then
  some t44.1
  else
  (if t44.1 = (-4 : Int32) then
  some t44.2
  else
  (aI t40.1 64 t44.2).bind fun x62 =>
  (aI t40.1 64 t44.1).bind fun x63 =>
  (if x63 ≤ x62 then
  some t44.1
  else
  some t44.2))) : Option (Int32))).bind (fun x58 =>
  some (.inl (x58, (t44.2 + (1 : Int32)))))
def fm_quarter_k253 (a1 : Int32) (t40 : mS × Int32) (z46 : Int32) (x66 : Int32) : Option ((mS × Int32) ⊕ (mS)) :=
  (((if x66 = 0 then
  some t40.1
  else
  (tZ t40.1 72 z46 (1 : Int32)).bind fun x72 =>
  (fm_decides x72 z46 a1).bind fun x73 =>
  some x73) : Option (mS))).bind (fun x69 =>
  some (.inl (x69, x66)))
def fm_quarter_l144 (t40 : mS × Int32) (t44 : Int32 × Int32) : Option ((Int32 × Int32) ⊕ (Int32)) :=
  (if (gI t40.1 54) ≤ t44.2 then
  some (.inr t44.1)
  else
  (aI t40.1 59 t44.2).bind fun x48 =>
  (((if x48 = 0 then
  some (0 : Int32)
  else
  (aI t40.1 65 t44.2).bind fun x52 =>
  (if x52 = (-4 : Int32) then
  (aI t40.1 60 t44.2).bind fun x54 =>
  (if x54 = 0 then
  (aI t40.1 72 t44.2).bind fun x56 =>
  (if x56 = 0 then
  some (1 : Int32)
  else
  some (0 : Int32))
  else
  some (0 : Int32))
  else
  some (0 : Int32))) : Option (Int32))).bind (fun x49 => fm_quarter_k200 t40 t44 x49))
def fm_quarter_l134 (a1 : Int32) (t40 : mS × Int32) : Option ((mS × Int32) ⊕ (mS)) :=
  (if t40.2 = 0 then
  some (.inr t40.1)
  else
  (loopO (fm_quarter_l144 t40) 1000000 ((-4 : Int32), (0 : Int32))).bind (fun z46 =>
  (((if z46 = (-4 : Int32) then
  some (0 : Int32)
  else
  some (1 : Int32)) : Option (Int32))).bind (fun x66 => fm_quarter_k253 a1 t40 z46 x66)))
def fm_quarter_l2 (a1 : Int32) (t1 : mS × Int32) : Option ((mS × Int32) ⊕ (mS)) :=
  (if (gI t1.1 54) ≤ t1.2 then
  some (.inr t1.1)
  else
  (tZ t1.1 72 t1.2 (0 : Int32)).bind fun x5 =>
  (aI x5 59 t1.2).bind fun x6 =>
  (((if x6 = 0 then
  (aI x5 57 t1.2).bind fun x21 =>
  (if x21 = a1 then
  (tZ x5 59 t1.2 (1 : Int32)).bind fun x34 =>
  (aI x34 55 t1.2).bind fun x35 =>
  (fm_stepAt x34 x35 (0 : Int32)).bind fun x36 =>
  (aI x34 3 x36).bind fun x37 =>
  (fm_comes x34 t1.2 x37 a1).bind fun x38 =>
  some x38
  else
  (aI x5 59 t1.2).bind fun x23 =>
  (if x23 = 0 then
  some x5
  else
  (aI x5 65 t1.2).bind fun x25 =>
  (if x25 = a1 then
  (aI x5 55 t1.2).bind fun x27 =>
  (aI x5 62 t1.2).bind fun x28 =>
  (fm_stepAt x5 x27 x28).bind fun x29 =>
  (aI x5 62 t1.2).bind fun x30 =>
  (tI x5 62 t1.2 (x30 + (1 : Int32))).bind fun x31 =>
  (aI x31 4 x29).bind fun x32 =>
  (fm_comes x31 t1.2 x32 a1).bind fun x33 =>
  some x33
  else
  some x5)))
  else
  (aI x5 59 t1.2).bind fun x10 =>
  (if x10 = 0 then
  some x5
  else
  (aI x5 65 t1.2).bind fun x12 =>
  (if x12 = a1 then
  (aI x5 55 t1.2).bind fun x14 =>
  (aI x5 62 t1.2).bind fun x15 =>
  (fm_stepAt x5 x14 x15).bind fun x16 =>
  (aI x5 62 t1.2).bind fun x17 =>
  (tI x5 62 t1.2 (x17 + (1 : Int32))).bind fun x18 =>
  (aI x18 4 x16).bind fun x19 =>
  (fm_comes x18 t1.2 x19 a1).bind fun x20 =>
  some x20
  else
  some x5))) : Option (mS))).bind (fun x7 =>
  some (.inl (x7, (t1.2 + (1 : Int32))))))
def fm_quarter (S : mS) (a1 : Int32) : Option mS :=
  (loopO (fm_quarter_l2 a1) 1000000 (S, (0 : Int32))).bind (fun z3 =>
  (loopO (fm_quarter_l134 a1) 1000000 (z3, (1 : Int32))).bind (fun z42 =>
  some z42))
set_option maxHeartbeats 4000000 in
set_option maxRecDepth 100000 in
theorem cm_quarter (l : Launch) (G : mGh) (hG : mOk G) (S : mS) (a1 : Int32) {S' : mS} (hr : fm_quarter S a1 = some S') : Met l yX3_quarter (ws_ yX3_quarter cX3_quarter 6 none) ({ frames := 5, cells := 0, slots := 0, locals := 119 } : Room) (mPc G [.int a1] S) (mQv G S') 0 0 (zA G) := by
  refine m_met cX3_quarter (by decide) rfl hG (Nat.le_of_ble_eq_true rfl) (fun p e s m args below meth c C hret hlk ls hX hl => ?_)
  have hx := C.1.1
  have hb := C.1.2.1
  have hown := C.1.2.2.2.1
  have hts := C.1.2.2.2.2
  have hS : va_S (zA G) s.heap s.heap [] := va_S.rf
  have hl : lv_has ls 6 [(0, .ref (zh G)), (1, .int a1)] := hl
  unfold fm_quarter at hr
  refine lv_iconst (v := 0) hx hb dX3_quarter_0 (by decide) ?_
  refine lv_istore_n (lv' := [(2, .int (0 : Int32)), (0, .ref (zh G)), (1, .int a1)]) hx hb dX3_quarter_1 rfl hl (by decide) rfl (fun ls hl => ?_)
  obtain ⟨z3, e3, hr⟩ := ob hr
  refine m_join (I := fun (_ : Unit) H locs ls => mX G z3 H ∧ va_S (zA G) s.heap H locs ∧ lv_has ls 6 [(0, .ref (zh G)), (1, .int a1)]) 132 (fun _ => []) (fun _ H locs ls hi => ?_) (fun J1_132 => ?_)
  · obtain ⟨hX, hS, hl⟩ := hi
    refine lv_iconst (v := 1) hx hb dX3_quarter_132 (by decide) ?_
    refine lv_istore_n (lv' := [(2, .int (1 : Int32)), (0, .ref (zh G)), (1, .int a1)]) hx hb dX3_quarter_133 rfl hl (by decide) rfl (fun ls hl => ?_)
    obtain ⟨z42, e42, hr⟩ := ob hr
    refine m_join (I := fun (_ : Unit) H locs ls => mX G z42 H ∧ va_S (zA G) s.heap H locs ∧ lv_has ls 6 []) 274 (fun _ => []) (fun _ H locs ls hi => ?_) (fun J40_274 => ?_)
    · obtain ⟨hX, hS, hl⟩ := hi
      exact m_rvw (C := C) hret hlk hX hS (Option.some.inj hr) dX3_quarter_274
    refine m_loop e42 (fun (t40 : mS × Int32) H locs ls => mX G t40.1 H ∧ va_S (zA G) s.heap H locs ∧ lv_has ls 6 [(0, .ref (zh G)), (1, .int a1), (2, .int t40.2)]) 134 ⟨hX, hS, lv_sub hl [1, 2, 0] rfl⟩ (fun t40 y40 b40 w40 k40 H locs ls hi => ?_)
    obtain ⟨hX, hS, hl⟩ := hi
    unfold fm_quarter_l134 at b40
    refine lv_iload_n hx hb dX3_quarter_134 rfl (lv_at hl 2 rfl) ?_
    refine lv_if_eq (tgt := 274) hx hb dX3_quarter_135 (by decide) (fun c43 => ?_) (fun c43 => ?_)
    · replace b40 := it c43 b40
      replace b40 := lx b40 w40
      subst b40
      exact J40_274 () _ _ ls ⟨hX, hS, lv_sub hl [] rfl⟩
    · replace b40 := ie c43 b40
      refine lv_bipush (v := -4) hx hb dX3_quarter_138 (by decide) ?_
      refine lv_istore_n (lv' := [(3, .int (-4 : Int32)), (0, .ref (zh G)), (1, .int a1), (2, .int t40.2)]) hx hb dX3_quarter_140 rfl hl (by decide) rfl (fun ls hl => ?_)
      refine lv_iconst (v := 0) hx hb dX3_quarter_141 (by decide) ?_
      refine lv_istore (lv' := [(4, .int (0 : Int32)), (3, .int (-4 : Int32)), (0, .ref (zh G)), (1, .int a1), (2, .int t40.2)]) hx hb dX3_quarter_142 hl (by decide) rfl (fun ls hl => ?_)
      obtain ⟨z46, e46, b40⟩ := ob b40
      refine m_join (I := fun (_ : Unit) H locs ls => mX G t40.1 H ∧ va_S (zA G) s.heap H locs ∧ lv_has ls 6 [(0, .ref (zh G)), (1, .int a1), (3, .int z46)]) 242 (fun _ => []) (fun _ H locs ls hi => ?_) (fun J44_242 => ?_)
      · obtain ⟨hX, hS, hl⟩ := hi
        refine lv_iload_n hx hb dX3_quarter_242 rfl (lv_at hl 2 rfl) ?_
        refine lv_bipush (v := -4) hx hb dX3_quarter_243 (by decide) ?_
        obtain ⟨x66, r66, b40⟩ := ob b40
        refine m_join (I := fun (t67 : Int32) H locs ls => x66 = t67 ∧ mX G t40.1 H ∧ va_S (zA G) s.heap H locs ∧ lv_has ls 6 [(0, .ref (zh G)), (1, .int a1), (3, .int z46)]) 253 (fun t67 => [.int t67]) (fun t67 H locs ls hi => ?_) (fun J66 => ?_)
        · obtain ⟨rfl, hX, hS, hl⟩ := hi
          unfold fm_quarter_k253 at b40
          refine lv_istore_n (lv' := [(2, .int x66), (0, .ref (zh G)), (1, .int a1), (3, .int z46)]) hx hb dX3_quarter_253 rfl hl (by decide) rfl (fun ls hl => ?_)
          refine lv_iload_n hx hb dX3_quarter_254 rfl (lv_at hl 0 rfl) ?_
          obtain ⟨x69, r69, b40⟩ := ob b40
          refine m_join (I := fun (t70 : mS) H locs ls => x69 = t70 ∧ mX G t70 H ∧ va_S (zA G) s.heap H locs ∧ lv_has ls 6 [(0, .ref (zh G)), (1, .int a1), (2, .int x66)]) 271 (fun t70 => []) (fun t70 H locs ls hi => ?_) (fun J69 => ?_)
          · obtain ⟨rfl, hX, hS, hl⟩ := hi
            refine lv_goto (tgt := 134) hx hb dX3_quarter_271 (by decide) ?_
            exact k40 _ (Option.some.inj b40).symm _ _ ls ⟨hX, hS, hl⟩
          · refine lv_if_eq (tgt := 271) hx hb dX3_quarter_255 (by decide) (fun c71 => ?_) (fun c71 => ?_)
            · replace r69 := it c71 r69
              exact J69 _ _ _ ls ⟨(Option.some.inj r69).symm, hX, hS, lv_sub hl [1, 2, 0] rfl⟩
            · replace r69 := ie c71 r69
              refine lv_aload_n hx hb dX3_quarter_258 rfl (lv_at hl 1 rfl) ?_
              refine m_ga (k := 72) (d := 1) C q1770 rfl (by decide) hX dX3_quarter_259 ?_
              refine lv_iload_n hx hb dX3_quarter_262 rfl (lv_at hl 3 rfl) ?_
              refine lv_iconst (v := 1) hx hb dX3_quarter_263 (by decide) ?_
              obtain ⟨x72, e72, r69⟩ := ob r69
              refine m_zs (k := 72) C rfl hX hS e72 dX3_quarter_264 (fun H locs hX hS => ?_)
              refine lv_aload_n hx hb dX3_quarter_265 rfl (lv_at hl 1 rfl) ?_
              refine lv_iload_n hx hb dX3_quarter_266 rfl (lv_at hl 3 rfl) ?_
              refine lv_iload_n hx hb dX3_quarter_267 rfl (lv_at hl 2 rfl) ?_
              obtain ⟨x73, e73, r69⟩ := ob r69
              refine m_cvv (As := [.int z46, .int a1]) (rest := []) C hX hS hl.1 (cm_decides l G hG x72 z46 a1 e73) (cwV 2 hts (lw_V q2313 q2315 qs92 q109 q2316) rfl rfl rfl (by decide +kernel) ⟨Nat.le_of_ble_eq_true rfl, Nat.le_of_ble_eq_true rfl⟩) rfl rfl (Nat.le_of_ble_eq_true rfl) dX3_quarter_268 (fun H locs hX hS => ?_)
              exact J69 _ _ _ ls ⟨(Option.some.inj r69).symm, hX, hS, lv_sub hl [1, 2, 0] rfl⟩
        · refine lv_icmp_eq (tgt := 252) hx hb dX3_quarter_245 (by decide) (fun c68 => ?_) (fun c68 => ?_)
          · replace r66 := it c68 r66
            refine lv_iconst (v := 0) hx hb dX3_quarter_252 (by decide) ?_
            exact J66 _ _ _ ls ⟨(Option.some.inj r66).symm, hX, hS, hl⟩
          · replace r66 := ie c68 r66
            refine lv_iconst (v := 1) hx hb dX3_quarter_248 (by decide) ?_
            refine lv_goto (tgt := 253) hx hb dX3_quarter_249 (by decide) ?_
            exact J66 _ _ _ ls ⟨(Option.some.inj r66).symm, hX, hS, hl⟩
      refine m_loop e46 (fun (t44 : Int32 × Int32) H locs ls => mX G t40.1 H ∧ va_S (zA G) s.heap H locs ∧ lv_has ls 6 [(0, .ref (zh G)), (1, .int a1), (3, .int t44.1), (4, .int t44.2)]) 144 ⟨hX, hS, lv_sub hl [2, 3, 1, 0] rfl⟩ (fun t44 y44 b44 w44 k44 H locs ls hi => ?_)
      obtain ⟨hX, hS, hl⟩ := hi
      unfold fm_quarter_l144 at b44
      refine lv_iload hx hb dX3_quarter_144 (lv_at hl 3 rfl) ?_
      refine lv_aload_n hx hb dX3_quarter_146 rfl (lv_at hl 0 rfl) ?_
      refine m_gi (k := 54) C q1752 rfl hX dX3_quarter_147 ?_
      refine lv_icmp_ge (tgt := 242) hx hb dX3_quarter_150 (by decide) (fun c47 => ?_) (fun c47 => ?_)
      · replace b44 := it c47 b44
        replace b44 := lx b44 w44
        subst b44
        exact J44_242 () _ _ ls ⟨hX, hS, lv_sub hl [0, 1, 2] rfl⟩
      · replace b44 := ie c47 b44
        refine lv_aload_n hx hb dX3_quarter_153 rfl (lv_at hl 0 rfl) ?_
        refine m_ga (k := 59) (d := 1) C q1757 rfl (by decide) hX dX3_quarter_154 ?_
        refine lv_iload hx hb dX3_quarter_157 (lv_at hl 3 rfl) ?_
        obtain ⟨x48, e48, b44⟩ := ob b44
        refine m_za (k := 59) C rfl hX e48 dX3_quarter_159 ?_
        obtain ⟨x49, r49, b44⟩ := ob b44
        refine m_join (I := fun (t50 : Int32) H locs ls => x49 = t50 ∧ mX G t40.1 H ∧ va_S (zA G) s.heap H locs ∧ lv_has ls 6 [(0, .ref (zh G)), (1, .int a1), (3, .int t44.1), (4, .int t44.2)]) 200 (fun t50 => [.int t50]) (fun t50 H locs ls hi => ?_) (fun J49 => ?_)
        · obtain ⟨rfl, hX, hS, hl⟩ := hi
          unfold fm_quarter_k200 at b44
          refine lv_istore (lv' := [(5, .int x49), (0, .ref (zh G)), (1, .int a1), (3, .int t44.1), (4, .int t44.2)]) hx hb dX3_quarter_200 hl (by decide) rfl (fun ls hl => ?_)
          refine lv_iload hx hb dX3_quarter_202 (lv_at hl 0 rfl) ?_
          obtain ⟨x58, r58, b44⟩ := ob b44
          refine m_join (I := fun (t59 : Int32) H locs ls => x58 = t59 ∧ mX G t40.1 H ∧ va_S (zA G) s.heap H locs ∧ lv_has ls 6 [(0, .ref (zh G)), (1, .int a1), (4, .int t44.2)]) 235 (fun t59 => [.int t59]) (fun t59 H locs ls hi => ?_) (fun J58 => ?_)
          · obtain ⟨rfl, hX, hS, hl⟩ := hi
            refine lv_istore_n (lv' := [(3, .int x58), (0, .ref (zh G)), (1, .int a1), (4, .int t44.2)]) hx hb dX3_quarter_235 rfl hl (by decide) rfl (fun ls hl => ?_)
            refine lv_iinc (v := (t44.2 + (1 : Int32))) (k := 3) (lv' := [(4, .int (t44.2 + (1 : Int32))), (3, .int x58), (0, .ref (zh G)), (1, .int a1)]) hx hb dX3_quarter_236 hl rfl rfl (by decide) rfl (fun ls hl => ?_)
            refine lv_goto (tgt := 144) hx hb dX3_quarter_239 (by decide) ?_
            obtain ⟨g65, hg65⟩ : ∃ g, g = (t44.2 + (1 : Int32)) := ⟨_, rfl⟩
            rw [← hg65] at hl b44
            exact k44 _ (Option.some.inj b44).symm _ _ ls ⟨hX, hS, lv_sub hl [2, 3, 1, 0] rfl⟩
          · refine lv_if_eq (tgt := 234) hx hb dX3_quarter_204 (by decide) (fun c60 => ?_) (fun c60 => ?_)
            · replace r58 := it c60 r58
              refine lv_iload_n hx hb dX3_quarter_234 rfl (lv_at hl 3 rfl) ?_
              exact J58 _ _ _ ls ⟨(Option.some.inj r58).symm, hX, hS, lv_sub hl [1, 2, 4] rfl⟩
            · replace r58 := ie c60 r58
              refine lv_iload_n hx hb dX3_quarter_207 rfl (lv_at hl 3 rfl) ?_
              refine lv_bipush (v := -4) hx hb dX3_quarter_208 (by decide) ?_
              refine lv_icmp_eq (tgt := 229) hx hb dX3_quarter_210 (by decide) (fun c61 => ?_) (fun c61 => ?_)
              · replace r58 := it c61 r58
                refine lv_iload hx hb dX3_quarter_229 (lv_at hl 4 rfl) ?_
                refine lv_goto (tgt := 235) hx hb dX3_quarter_231 (by decide) ?_
                exact J58 _ _ _ ls ⟨(Option.some.inj r58).symm, hX, hS, lv_sub hl [1, 2, 4] rfl⟩
              · replace r58 := ie c61 r58
                refine lv_aload_n hx hb dX3_quarter_213 rfl (lv_at hl 1 rfl) ?_
                refine m_ga (k := 64) (d := 0) C q1762 rfl (by decide) hX dX3_quarter_214 ?_
                refine lv_iload hx hb dX3_quarter_217 (lv_at hl 4 rfl) ?_
                obtain ⟨x62, e62, r58⟩ := ob r58
                refine m_ia (k := 64) C rfl hX e62 dX3_quarter_219 ?_
                refine lv_aload_n hx hb dX3_quarter_220 rfl (lv_at hl 1 rfl) ?_
                refine m_ga (k := 64) (d := 0) C q1762 rfl (by decide) hX dX3_quarter_221 ?_
                refine lv_iload_n hx hb dX3_quarter_224 rfl (lv_at hl 3 rfl) ?_
                obtain ⟨x63, e63, r58⟩ := ob r58
                refine m_ia (k := 64) C rfl hX e63 dX3_quarter_225 ?_
                refine lv_icmp_ge (tgt := 234) hx hb dX3_quarter_226 (by decide) (fun c64 => ?_) (fun c64 => ?_)
                · replace r58 := it c64 r58
                  refine lv_iload_n hx hb dX3_quarter_234 rfl (lv_at hl 3 rfl) ?_
                  exact J58 _ _ _ ls ⟨(Option.some.inj r58).symm, hX, hS, lv_sub hl [1, 2, 4] rfl⟩
                · replace r58 := ie c64 r58
                  refine lv_iload hx hb dX3_quarter_229 (lv_at hl 4 rfl) ?_
                  refine lv_goto (tgt := 235) hx hb dX3_quarter_231 (by decide) ?_
                  exact J58 _ _ _ ls ⟨(Option.some.inj r58).symm, hX, hS, lv_sub hl [1, 2, 4] rfl⟩
        · refine lv_if_eq (tgt := 199) hx hb dX3_quarter_160 (by decide) (fun c51 => ?_) (fun c51 => ?_)
          · replace r49 := it c51 r49
            refine lv_iconst (v := 0) hx hb dX3_quarter_199 (by decide) ?_
            exact J49 _ _ _ ls ⟨(Option.some.inj r49).symm, hX, hS, hl⟩
          · replace r49 := ie c51 r49
            refine lv_aload_n hx hb dX3_quarter_163 rfl (lv_at hl 0 rfl) ?_
            refine m_ga (k := 65) (d := 0) C q1763 rfl (by decide) hX dX3_quarter_164 ?_
            refine lv_iload hx hb dX3_quarter_167 (lv_at hl 3 rfl) ?_
            obtain ⟨x52, e52, r49⟩ := ob r49
            refine m_ia (k := 65) C rfl hX e52 dX3_quarter_169 ?_
            refine lv_bipush (v := -4) hx hb dX3_quarter_170 (by decide) ?_
            refine lv_icmp_ne (tgt := 199) hx hb dX3_quarter_172 (by decide) (fun c53 => ?_) (fun c53 => ?_)
            · replace r49 := ie c53 r49
              refine lv_iconst (v := 0) hx hb dX3_quarter_199 (by decide) ?_
              exact J49 _ _ _ ls ⟨(Option.some.inj r49).symm, hX, hS, hl⟩
            · replace r49 := it c53 r49
              refine lv_aload_n hx hb dX3_quarter_175 rfl (lv_at hl 0 rfl) ?_
              refine m_ga (k := 60) (d := 1) C q1758 rfl (by decide) hX dX3_quarter_176 ?_
              refine lv_iload hx hb dX3_quarter_179 (lv_at hl 3 rfl) ?_
              obtain ⟨x54, e54, r49⟩ := ob r49
              refine m_za (k := 60) C rfl hX e54 dX3_quarter_181 ?_
              refine lv_if_ne (tgt := 199) hx hb dX3_quarter_182 (by decide) (fun c55 => ?_) (fun c55 => ?_)
              · replace r49 := ie c55 r49
                refine lv_iconst (v := 0) hx hb dX3_quarter_199 (by decide) ?_
                exact J49 _ _ _ ls ⟨(Option.some.inj r49).symm, hX, hS, hl⟩
              · replace r49 := it c55 r49
                refine lv_aload_n hx hb dX3_quarter_185 rfl (lv_at hl 0 rfl) ?_
                refine m_ga (k := 72) (d := 1) C q1770 rfl (by decide) hX dX3_quarter_186 ?_
                refine lv_iload hx hb dX3_quarter_189 (lv_at hl 3 rfl) ?_
                obtain ⟨x56, e56, r49⟩ := ob r49
                refine m_za (k := 72) C rfl hX e56 dX3_quarter_191 ?_
                refine lv_if_ne (tgt := 199) hx hb dX3_quarter_192 (by decide) (fun c57 => ?_) (fun c57 => ?_)
                · replace r49 := ie c57 r49
                  refine lv_iconst (v := 0) hx hb dX3_quarter_199 (by decide) ?_
                  exact J49 _ _ _ ls ⟨(Option.some.inj r49).symm, hX, hS, hl⟩
                · replace r49 := it c57 r49
                  refine lv_iconst (v := 1) hx hb dX3_quarter_195 (by decide) ?_
                  refine lv_goto (tgt := 200) hx hb dX3_quarter_196 (by decide) ?_
                  exact J49 _ _ _ ls ⟨(Option.some.inj r49).symm, hX, hS, hl⟩
  refine m_loop e3 (fun (t1 : mS × Int32) H locs ls => mX G t1.1 H ∧ va_S (zA G) s.heap H locs ∧ lv_has ls 6 [(0, .ref (zh G)), (1, .int a1), (2, .int t1.2)]) 2 ⟨hX, hS, lv_sub hl [1, 2, 0] rfl⟩ (fun t1 y1 b1 w1 k1 H locs ls hi => ?_)
  obtain ⟨hX, hS, hl⟩ := hi
  unfold fm_quarter_l2 at b1
  refine lv_iload_n hx hb dX3_quarter_2 rfl (lv_at hl 2 rfl) ?_
  refine lv_aload_n hx hb dX3_quarter_3 rfl (lv_at hl 0 rfl) ?_
  refine m_gi (k := 54) C q1752 rfl hX dX3_quarter_4 ?_
  refine lv_icmp_ge (tgt := 132) hx hb dX3_quarter_7 (by decide) (fun c4 => ?_) (fun c4 => ?_)
  · replace b1 := it c4 b1
    replace b1 := lx b1 w1
    subst b1
    exact J1_132 () _ _ ls ⟨hX, hS, lv_sub hl [0, 1] rfl⟩
  · replace b1 := ie c4 b1
    refine lv_aload_n hx hb dX3_quarter_10 rfl (lv_at hl 0 rfl) ?_
    refine m_ga (k := 72) (d := 1) C q1770 rfl (by decide) hX dX3_quarter_11 ?_
    refine lv_iload_n hx hb dX3_quarter_14 rfl (lv_at hl 2 rfl) ?_
    refine lv_iconst (v := 0) hx hb dX3_quarter_15 (by decide) ?_
    obtain ⟨x5, e5, b1⟩ := ob b1
    refine m_zs (k := 72) C rfl hX hS e5 dX3_quarter_16 (fun H locs hX hS => ?_)
    refine lv_aload_n hx hb dX3_quarter_17 rfl (lv_at hl 0 rfl) ?_
    refine m_ga (k := 59) (d := 1) C q1757 rfl (by decide) hX dX3_quarter_18 ?_
    refine lv_iload_n hx hb dX3_quarter_21 rfl (lv_at hl 2 rfl) ?_
    obtain ⟨x6, e6, b1⟩ := ob b1
    refine m_za (k := 59) C rfl hX e6 dX3_quarter_22 ?_
    obtain ⟨x7, r7, b1⟩ := ob b1
    refine m_join (I := fun (t8 : mS) H locs ls => x7 = t8 ∧ mX G t8 H ∧ va_S (zA G) s.heap H locs ∧ lv_has ls 6 [(0, .ref (zh G)), (1, .int a1), (2, .int t1.2)]) 126 (fun t8 => []) (fun t8 H locs ls hi => ?_) (fun J7 => ?_)
    · obtain ⟨rfl, hX, hS, hl⟩ := hi
      refine lv_iinc (v := (t1.2 + (1 : Int32))) (k := 2) (lv' := [(2, .int (t1.2 + (1 : Int32))), (0, .ref (zh G)), (1, .int a1)]) hx hb dX3_quarter_126 hl rfl rfl (by decide) rfl (fun ls hl => ?_)
      refine lv_goto (tgt := 2) hx hb dX3_quarter_129 (by decide) ?_
      obtain ⟨g39, hg39⟩ : ∃ g, g = (t1.2 + (1 : Int32)) := ⟨_, rfl⟩
      rw [← hg39] at hl b1
      exact k1 _ (Option.some.inj b1).symm _ _ ls ⟨hX, hS, lv_sub hl [1, 2, 0] rfl⟩
    · refine lv_if_ne (tgt := 68) hx hb dX3_quarter_23 (by decide) (fun c9 => ?_) (fun c9 => ?_)
      · replace r7 := ie c9 r7
        refine lv_aload_n hx hb dX3_quarter_68 rfl (lv_at hl 0 rfl) ?_
        refine m_ga (k := 59) (d := 1) C q1757 rfl (by decide) hX dX3_quarter_69 ?_
        refine lv_iload_n hx hb dX3_quarter_72 rfl (lv_at hl 2 rfl) ?_
        obtain ⟨x10, e10, r7⟩ := ob r7
        refine m_za (k := 59) C rfl hX e10 dX3_quarter_73 ?_
        refine lv_if_eq (tgt := 126) hx hb dX3_quarter_74 (by decide) (fun c11 => ?_) (fun c11 => ?_)
        · replace r7 := it c11 r7
          exact J7 _ _ _ ls ⟨(Option.some.inj r7).symm, hX, hS, hl⟩
        · replace r7 := ie c11 r7
          refine lv_aload_n hx hb dX3_quarter_77 rfl (lv_at hl 0 rfl) ?_
          refine m_ga (k := 65) (d := 0) C q1763 rfl (by decide) hX dX3_quarter_78 ?_
          refine lv_iload_n hx hb dX3_quarter_81 rfl (lv_at hl 2 rfl) ?_
          obtain ⟨x12, e12, r7⟩ := ob r7
          refine m_ia (k := 65) C rfl hX e12 dX3_quarter_82 ?_
          refine lv_iload_n hx hb dX3_quarter_83 rfl (lv_at hl 1 rfl) ?_
          refine lv_icmp_ne (tgt := 126) hx hb dX3_quarter_84 (by decide) (fun c13 => ?_) (fun c13 => ?_)
          · replace r7 := ie c13 r7
            exact J7 _ _ _ ls ⟨(Option.some.inj r7).symm, hX, hS, hl⟩
          · replace r7 := it c13 r7
            refine lv_aload_n hx hb dX3_quarter_87 rfl (lv_at hl 0 rfl) ?_
            refine lv_aload_n hx hb dX3_quarter_88 rfl (lv_at hl 0 rfl) ?_
            refine m_ga (k := 55) (d := 0) C q1753 rfl (by decide) hX dX3_quarter_89 ?_
            refine lv_iload_n hx hb dX3_quarter_92 rfl (lv_at hl 2 rfl) ?_
            obtain ⟨x14, e14, r7⟩ := ob r7
            refine m_ia (k := 55) C rfl hX e14 dX3_quarter_93 ?_
            refine lv_aload_n hx hb dX3_quarter_94 rfl (lv_at hl 0 rfl) ?_
            refine m_ga (k := 62) (d := 0) C q1760 rfl (by decide) hX dX3_quarter_95 ?_
            refine lv_iload_n hx hb dX3_quarter_98 rfl (lv_at hl 2 rfl) ?_
            obtain ⟨x15, e15, r7⟩ := ob r7
            refine m_ia (k := 62) C rfl hX e15 dX3_quarter_99 ?_
            obtain ⟨x16, e16, r7⟩ := ob r7
            refine m_cvi (As := [.int x14, .int x15]) (rest := []) C hX hS hl.1 (cm_stepAt l G hG x5 x14 x15 e16) (cwV 2 hts (lw_V q2011 q2013 qs54 q109 q2014) rfl rfl rfl (by decide +kernel) ⟨Nat.le_of_ble_eq_true rfl, Nat.le_of_ble_eq_true rfl⟩) rfl rfl (Nat.le_of_ble_eq_true rfl) dX3_quarter_100 (fun H locs hX hS => ?_)
            refine lv_istore_n (lv' := [(3, .int x16), (0, .ref (zh G)), (1, .int a1), (2, .int t1.2)]) hx hb dX3_quarter_103 rfl hl (by decide) rfl (fun ls hl => ?_)
            refine lv_aload_n hx hb dX3_quarter_104 rfl (lv_at hl 1 rfl) ?_
            refine m_ga (k := 62) (d := 0) C q1760 rfl (by decide) hX dX3_quarter_105 ?_
            refine lv_iload_n hx hb dX3_quarter_108 rfl (lv_at hl 3 rfl) ?_
            refine lv_dup2_11 hx hb dX3_quarter_109 rfl rfl ?_
            obtain ⟨x17, e17, r7⟩ := ob r7
            refine m_ia (k := 62) C rfl hX e17 dX3_quarter_110 ?_
            refine lv_iconst (v := 1) hx hb dX3_quarter_111 (by decide) ?_
            refine lv_iadd hx hb dX3_quarter_112 ?_
            obtain ⟨x18, e18, r7⟩ := ob r7
            refine m_is (k := 62) C rfl hX hS e18 dX3_quarter_113 (fun H locs hX hS => ?_)
            refine lv_aload_n hx hb dX3_quarter_114 rfl (lv_at hl 1 rfl) ?_
            refine lv_iload_n hx hb dX3_quarter_115 rfl (lv_at hl 3 rfl) ?_
            refine lv_aload_n hx hb dX3_quarter_116 rfl (lv_at hl 1 rfl) ?_
            refine m_ga (k := 4) (d := 0) C q1702 rfl (by decide) hX dX3_quarter_117 ?_
            refine lv_iload_n hx hb dX3_quarter_120 rfl (lv_at hl 0 rfl) ?_
            obtain ⟨x19, e19, r7⟩ := ob r7
            refine m_ia (k := 4) C rfl hX e19 dX3_quarter_121 ?_
            refine lv_iload_n hx hb dX3_quarter_122 rfl (lv_at hl 2 rfl) ?_
            obtain ⟨x20, e20, r7⟩ := ob r7
            refine m_cvv (As := [.int t1.2, .int x19, .int a1]) (rest := []) C hX hS hl.1 (cm_comes l G hG x18 t1.2 x19 a1 e20) (cwV 3 hts (lw_V q2309 q2311 qs91 q109 q2312) rfl rfl rfl (by decide +kernel) ⟨Nat.le_of_ble_eq_true rfl, Nat.le_of_ble_eq_true rfl⟩) rfl rfl (Nat.le_of_ble_eq_true rfl) dX3_quarter_123 (fun H locs hX hS => ?_)
            exact J7 _ _ _ ls ⟨(Option.some.inj r7).symm, hX, hS, lv_sub hl [1, 2, 3] rfl⟩
      · replace r7 := it c9 r7
        refine lv_aload_n hx hb dX3_quarter_26 rfl (lv_at hl 0 rfl) ?_
        refine m_ga (k := 57) (d := 0) C q1755 rfl (by decide) hX dX3_quarter_27 ?_
        refine lv_iload_n hx hb dX3_quarter_30 rfl (lv_at hl 2 rfl) ?_
        obtain ⟨x21, e21, r7⟩ := ob r7
        refine m_ia (k := 57) C rfl hX e21 dX3_quarter_31 ?_
        refine lv_iload_n hx hb dX3_quarter_32 rfl (lv_at hl 1 rfl) ?_
        refine lv_icmp_ne (tgt := 68) hx hb dX3_quarter_33 (by decide) (fun c22 => ?_) (fun c22 => ?_)
        · replace r7 := ie c22 r7
          refine lv_aload_n hx hb dX3_quarter_68 rfl (lv_at hl 0 rfl) ?_
          refine m_ga (k := 59) (d := 1) C q1757 rfl (by decide) hX dX3_quarter_69 ?_
          refine lv_iload_n hx hb dX3_quarter_72 rfl (lv_at hl 2 rfl) ?_
          obtain ⟨x23, e23, r7⟩ := ob r7
          refine m_za (k := 59) C rfl hX e23 dX3_quarter_73 ?_
          refine lv_if_eq (tgt := 126) hx hb dX3_quarter_74 (by decide) (fun c24 => ?_) (fun c24 => ?_)
          · replace r7 := it c24 r7
            exact J7 _ _ _ ls ⟨(Option.some.inj r7).symm, hX, hS, hl⟩
          · replace r7 := ie c24 r7
            refine lv_aload_n hx hb dX3_quarter_77 rfl (lv_at hl 0 rfl) ?_
            refine m_ga (k := 65) (d := 0) C q1763 rfl (by decide) hX dX3_quarter_78 ?_
            refine lv_iload_n hx hb dX3_quarter_81 rfl (lv_at hl 2 rfl) ?_
            obtain ⟨x25, e25, r7⟩ := ob r7
            refine m_ia (k := 65) C rfl hX e25 dX3_quarter_82 ?_
            refine lv_iload_n hx hb dX3_quarter_83 rfl (lv_at hl 1 rfl) ?_
            refine lv_icmp_ne (tgt := 126) hx hb dX3_quarter_84 (by decide) (fun c26 => ?_) (fun c26 => ?_)
            · replace r7 := ie c26 r7
              exact J7 _ _ _ ls ⟨(Option.some.inj r7).symm, hX, hS, hl⟩
            · replace r7 := it c26 r7
              refine lv_aload_n hx hb dX3_quarter_87 rfl (lv_at hl 0 rfl) ?_
              refine lv_aload_n hx hb dX3_quarter_88 rfl (lv_at hl 0 rfl) ?_
              refine m_ga (k := 55) (d := 0) C q1753 rfl (by decide) hX dX3_quarter_89 ?_
              refine lv_iload_n hx hb dX3_quarter_92 rfl (lv_at hl 2 rfl) ?_
              obtain ⟨x27, e27, r7⟩ := ob r7
              refine m_ia (k := 55) C rfl hX e27 dX3_quarter_93 ?_
              refine lv_aload_n hx hb dX3_quarter_94 rfl (lv_at hl 0 rfl) ?_
              refine m_ga (k := 62) (d := 0) C q1760 rfl (by decide) hX dX3_quarter_95 ?_
              refine lv_iload_n hx hb dX3_quarter_98 rfl (lv_at hl 2 rfl) ?_
              obtain ⟨x28, e28, r7⟩ := ob r7
              refine m_ia (k := 62) C rfl hX e28 dX3_quarter_99 ?_
              obtain ⟨x29, e29, r7⟩ := ob r7
              refine m_cvi (As := [.int x27, .int x28]) (rest := []) C hX hS hl.1 (cm_stepAt l G hG x5 x27 x28 e29) (cwV 2 hts (lw_V q2011 q2013 qs54 q109 q2014) rfl rfl rfl (by decide +kernel) ⟨Nat.le_of_ble_eq_true rfl, Nat.le_of_ble_eq_true rfl⟩) rfl rfl (Nat.le_of_ble_eq_true rfl) dX3_quarter_100 (fun H locs hX hS => ?_)
              refine lv_istore_n (lv' := [(3, .int x29), (0, .ref (zh G)), (1, .int a1), (2, .int t1.2)]) hx hb dX3_quarter_103 rfl hl (by decide) rfl (fun ls hl => ?_)
              refine lv_aload_n hx hb dX3_quarter_104 rfl (lv_at hl 1 rfl) ?_
              refine m_ga (k := 62) (d := 0) C q1760 rfl (by decide) hX dX3_quarter_105 ?_
              refine lv_iload_n hx hb dX3_quarter_108 rfl (lv_at hl 3 rfl) ?_
              refine lv_dup2_11 hx hb dX3_quarter_109 rfl rfl ?_
              obtain ⟨x30, e30, r7⟩ := ob r7
              refine m_ia (k := 62) C rfl hX e30 dX3_quarter_110 ?_
              refine lv_iconst (v := 1) hx hb dX3_quarter_111 (by decide) ?_
              refine lv_iadd hx hb dX3_quarter_112 ?_
              obtain ⟨x31, e31, r7⟩ := ob r7
              refine m_is (k := 62) C rfl hX hS e31 dX3_quarter_113 (fun H locs hX hS => ?_)
              refine lv_aload_n hx hb dX3_quarter_114 rfl (lv_at hl 1 rfl) ?_
              refine lv_iload_n hx hb dX3_quarter_115 rfl (lv_at hl 3 rfl) ?_
              refine lv_aload_n hx hb dX3_quarter_116 rfl (lv_at hl 1 rfl) ?_
              refine m_ga (k := 4) (d := 0) C q1702 rfl (by decide) hX dX3_quarter_117 ?_
              refine lv_iload_n hx hb dX3_quarter_120 rfl (lv_at hl 0 rfl) ?_
              obtain ⟨x32, e32, r7⟩ := ob r7
              refine m_ia (k := 4) C rfl hX e32 dX3_quarter_121 ?_
              refine lv_iload_n hx hb dX3_quarter_122 rfl (lv_at hl 2 rfl) ?_
              obtain ⟨x33, e33, r7⟩ := ob r7
              refine m_cvv (As := [.int t1.2, .int x32, .int a1]) (rest := []) C hX hS hl.1 (cm_comes l G hG x31 t1.2 x32 a1 e33) (cwV 3 hts (lw_V q2309 q2311 qs91 q109 q2312) rfl rfl rfl (by decide +kernel) ⟨Nat.le_of_ble_eq_true rfl, Nat.le_of_ble_eq_true rfl⟩) rfl rfl (Nat.le_of_ble_eq_true rfl) dX3_quarter_123 (fun H locs hX hS => ?_)
              exact J7 _ _ _ ls ⟨(Option.some.inj r7).symm, hX, hS, lv_sub hl [1, 2, 3] rfl⟩
        · replace r7 := it c22 r7
          refine lv_aload_n hx hb dX3_quarter_36 rfl (lv_at hl 0 rfl) ?_
          refine m_ga (k := 59) (d := 1) C q1757 rfl (by decide) hX dX3_quarter_37 ?_
          refine lv_iload_n hx hb dX3_quarter_40 rfl (lv_at hl 2 rfl) ?_
          refine lv_iconst (v := 1) hx hb dX3_quarter_41 (by decide) ?_
          obtain ⟨x34, e34, r7⟩ := ob r7
          refine m_zs (k := 59) C rfl hX hS e34 dX3_quarter_42 (fun H locs hX hS => ?_)
          refine lv_aload_n hx hb dX3_quarter_43 rfl (lv_at hl 0 rfl) ?_
          refine lv_iload_n hx hb dX3_quarter_44 rfl (lv_at hl 2 rfl) ?_
          refine lv_aload_n hx hb dX3_quarter_45 rfl (lv_at hl 0 rfl) ?_
          refine m_ga (k := 3) (d := 0) C q1701 rfl (by decide) hX dX3_quarter_46 ?_
          refine lv_aload_n hx hb dX3_quarter_49 rfl (lv_at hl 0 rfl) ?_
          refine lv_aload_n hx hb dX3_quarter_50 rfl (lv_at hl 0 rfl) ?_
          refine m_ga (k := 55) (d := 0) C q1753 rfl (by decide) hX dX3_quarter_51 ?_
          refine lv_iload_n hx hb dX3_quarter_54 rfl (lv_at hl 2 rfl) ?_
          obtain ⟨x35, e35, r7⟩ := ob r7
          refine m_ia (k := 55) C rfl hX e35 dX3_quarter_55 ?_
          refine lv_iconst (v := 0) hx hb dX3_quarter_56 (by decide) ?_
          obtain ⟨x36, e36, r7⟩ := ob r7
          refine m_cvi (As := [.int x35, .int (0 : Int32)]) (rest := [.ref (zad G 3), .int t1.2, .ref (zh G)]) C hX hS hl.1 (cm_stepAt l G hG x34 x35 (0 : Int32) e36) (cwV 2 hts (lw_V q2011 q2013 qs54 q109 q2014) rfl rfl rfl (by decide +kernel) ⟨Nat.le_of_ble_eq_true rfl, Nat.le_of_ble_eq_true rfl⟩) rfl rfl (Nat.le_of_ble_eq_true rfl) dX3_quarter_57 (fun H locs hX hS => ?_)
          obtain ⟨x37, e37, r7⟩ := ob r7
          refine m_ia (k := 3) C rfl hX e37 dX3_quarter_60 ?_
          refine lv_iload_n hx hb dX3_quarter_61 rfl (lv_at hl 1 rfl) ?_
          obtain ⟨x38, e38, r7⟩ := ob r7
          refine m_cvv (As := [.int t1.2, .int x37, .int a1]) (rest := []) C hX hS hl.1 (cm_comes l G hG x34 t1.2 x37 a1 e38) (cwV 3 hts (lw_V q2309 q2311 qs91 q109 q2312) rfl rfl rfl (by decide +kernel) ⟨Nat.le_of_ble_eq_true rfl, Nat.le_of_ble_eq_true rfl⟩) rfl rfl (Nat.le_of_ble_eq_true rfl) dX3_quarter_62 (fun H locs hX hS => ?_)
          refine lv_goto (tgt := 126) hx hb dX3_quarter_65 (by decide) ?_
          exact J7 _ _ _ ls ⟨(Option.some.inj r7).symm, hX, hS, hl⟩
