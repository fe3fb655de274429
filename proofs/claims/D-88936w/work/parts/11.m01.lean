/-! M's methods, printed by tool/genm.py -/
def fm_in (a1 : Int64) (a2 : Int64) (a3 : Int64) : Int32 :=
  (if (lg_cmp a1 a2) < 0 then
  (0 : Int32)
  else
  (if 0 < (lg_cmp a1 a3) then
  (0 : Int32)
  else
  (1 : Int32)))
theorem bm_in (a1 : Int64) (a2 : Int64) (a3 : Int64) : fm_in a1 a2 a3 = 0 ∨ fm_in a1 a2 a3 = 1 := by
  unfold fm_in
  (repeat' split) <;> first | exact Or.inl rfl | exact Or.inr rfl | (apply bm_in)
set_option maxHeartbeats 4000000 in
set_option maxRecDepth 100000 in
theorem cm_in (l : Launch) (a1 : Int64) (a2 : Int64) (a3 : Int64) {r : Int32} (hr : fm_in a1 a2 a3 = r) : Met l yX3_in (ws_ yX3_in cX3_in 6 (some .boolean)) ({ frames := 0, cells := 0, slots := 0, locals := 0 } : Room) (nPc [.long a1, .long a2, .long a3]) (nQi r) 0 0 (fun _ => False) := by
  refine n_met cX3_in RX3 (by decide) rfl (Nat.le_of_ble_eq_true rfl) (fun p e s m args below meth c C hret hlk ls hl => ?_)
  have hx := C.1
  have hb := C.2.1
  have hown := C.2.2.2.1
  have hts := C.2.2.2.2
  have hl : lv_has ls 6 [(0, .long a1), (2, .long a2), (4, .long a3)] := hl
  unfold fm_in at hr
  refine lv_lload_n hx hb dX3_in_0 rfl (lv_at hl 0 rfl) ?_
  refine lv_lload_n hx hb dX3_in_1 rfl (lv_at hl 1 rfl) ?_
  refine W.lcmp hx hb dX3_in_2 ?_
  refine lv_if_lt (tgt := 17) hx hb dX3_in_3 (by decide) (fun c1 => ?_) (fun c1 => ?_)
  · replace hr := it c1 hr
    refine lv_iconst (v := 0) hx hb dX3_in_17 (by decide) ?_
    exact n_rz hx hb hret hlk (by decide) hr dX3_in_18
  · replace hr := ie c1 hr
    refine lv_lload_n hx hb dX3_in_6 rfl (lv_at hl 0 rfl) ?_
    refine lv_lload hx hb dX3_in_7 (lv_at hl 2 rfl) ?_
    refine W.lcmp hx hb dX3_in_9 ?_
    refine lv_if_gt (tgt := 17) hx hb dX3_in_10 (by decide) (fun c2 => ?_) (fun c2 => ?_)
    · replace hr := it c2 hr
      refine lv_iconst (v := 0) hx hb dX3_in_17 (by decide) ?_
      exact n_rz hx hb hret hlk (by decide) hr dX3_in_18
    · replace hr := ie c2 hr
      refine lv_iconst (v := 1) hx hb dX3_in_13 (by decide) ?_
      refine lv_goto (tgt := 18) hx hb dX3_in_14 (by decide) ?_
      exact n_rz hx hb hret hlk (by decide) hr dX3_in_18

def fm_place (S : mS) (a1 : Int32) : Option (mS × Int32) :=
  (if (fm_in a1.toInt64 (0 : Int64) (9 : Int64)) = 0 then
  some (S, (-1 : Int32))
  else
  (if (gI S 0) = (12 : Int32) then
  some (S, (-3 : Int32))
  else
  (tI S 1 (gI S 0) a1).bind fun x3 =>
  (pI x3 0 ((gI x3 0) + (1 : Int32))).bind fun x4 =>
  some (x4, ((gI x4 0) - (1 : Int32)))))
set_option maxHeartbeats 4000000 in
set_option maxRecDepth 100000 in
theorem cm_place (l : Launch) (G : mGh) (hG : mOk G) (S : mS) (a1 : Int32) {S' : mS} {r : Int32} (hr : fm_place S a1 = some (S', r)) : Met l yX3_place (ws_ yX3_place cX3_place 2 (some .int)) ({ frames := 1, cells := 0, slots := 0, locals := 25 } : Room) (mPc G [.int a1] S) (mQi G r S') 0 0 (zA G) := by
  refine m_met cX3_place (by decide) rfl hG (Nat.le_of_ble_eq_true rfl) (fun p e s m args below meth c C hret hlk ls hX hl => ?_)
  have hx := C.1.1
  have hb := C.1.2.1
  have hown := C.1.2.2.2.1
  have hts := C.1.2.2.2.2
  have hS : va_S (zA G) s.heap s.heap [] := va_S.rf
  have hl : lv_has ls 2 [(0, .ref (zh G)), (1, .int a1)] := hl
  unfold fm_place at hr
  refine lv_iload_n hx hb dX3_place_0 rfl (lv_at hl 1 rfl) ?_
  refine lv_i2l (v := a1.toInt64) hx hb dX3_place_1 rfl ?_
  refine lv_lconst (v := 0) hx hb dX3_place_2 (by decide) ?_
  refine lv_ldc2 hx hb hown (hts _ q1973) dX3_place_3 ?_
  refine m_csi (As := [.long a1.toInt64, .long (0 : Int64), .long (9 : Int64)]) (rest := []) C hX hS hl.1 (cm_in l a1.toInt64 (0 : Int64) (9 : Int64) rfl) (va_cwS 3 hts (lw_S q1974 q1975 q109 q1976) rfl rfl rfl (by decide +kernel) ⟨Nat.le_of_ble_eq_true rfl, Nat.le_of_ble_eq_true rfl⟩) rfl rfl (Nat.le_of_ble_eq_true rfl) dX3_place_6 (fun H locs hX hS => ?_)
  refine lv_if_ne (tgt := 14) hx hb dX3_place_9 (by decide) (fun c1 => ?_) (fun c1 => ?_)
  · replace hr := ie c1 hr
    refine lv_aload_n hx hb dX3_place_14 rfl (lv_at hl 0 rfl) ?_
    refine m_gi (k := 0) C q1698 rfl hX dX3_place_15 ?_
    refine lv_bipush (v := 12) hx hb dX3_place_18 (by decide) ?_
    refine lv_icmp_ne (tgt := 26) hx hb dX3_place_20 (by decide) (fun c2 => ?_) (fun c2 => ?_)
    · replace hr := ie c2 hr
      refine lv_aload_n hx hb dX3_place_26 rfl (lv_at hl 0 rfl) ?_
      refine m_ga (k := 1) (d := 0) C q1699 rfl (by decide) hX dX3_place_27 ?_
      refine lv_aload_n hx hb dX3_place_30 rfl (lv_at hl 0 rfl) ?_
      refine m_gi (k := 0) C q1698 rfl hX dX3_place_31 ?_
      refine lv_iload_n hx hb dX3_place_34 rfl (lv_at hl 1 rfl) ?_
      obtain ⟨x3, e3, hr⟩ := ob hr
      refine m_is (k := 1) C rfl hX hS e3 dX3_place_35 (fun H locs hX hS => ?_)
      refine lv_aload_n hx hb dX3_place_36 rfl (lv_at hl 0 rfl) ?_
      refine lv_dup hx hb dX3_place_37 rfl ?_
      refine m_gi (k := 0) C q1698 rfl hX dX3_place_38 ?_
      refine lv_iconst (v := 1) hx hb dX3_place_41 (by decide) ?_
      refine lv_iadd hx hb dX3_place_42 ?_
      obtain ⟨x4, e4, hr⟩ := ob hr
      refine m_pi (k := 0) C q1698 rfl hX hS e4 dX3_place_43 (fun H locs hX hS => ?_)
      refine lv_aload_n hx hb dX3_place_46 rfl (lv_at hl 0 rfl) ?_
      refine m_gi (k := 0) C q1698 rfl hX dX3_place_47 ?_
      refine lv_iconst (v := 1) hx hb dX3_place_50 (by decide) ?_
      refine lv_isub hx hb dX3_place_51 ?_
      exact m_riw (C := C) hret hlk hX hS (Option.some.inj hr) dX3_place_52
    · replace hr := it c2 hr
      refine lv_bipush (v := -3) hx hb dX3_place_23 (by decide) ?_
      exact m_riw (C := C) hret hlk hX hS (Option.some.inj hr) dX3_place_25
  · replace hr := it c1 hr
    refine lv_iconst (v := -1) hx hb dX3_place_12 (by decide) ?_
    exact m_riw (C := C) hret hlk hX hS (Option.some.inj hr) dX3_place_13

def fm_isPlace (S : mS) (a1 : Int32) : Int32 :=
  (fm_in a1.toInt64 (0 : Int64) (((gI S 0) - (1 : Int32)).toInt64))
theorem bm_isPlace (S : mS) (a1 : Int32) : fm_isPlace S a1 = 0 ∨ fm_isPlace S a1 = 1 := by
  unfold fm_isPlace
  (repeat' split) <;> first | exact Or.inl rfl | exact Or.inr rfl | (apply bm_in)
set_option maxHeartbeats 4000000 in
set_option maxRecDepth 100000 in
theorem cm_isPlace (l : Launch) (G : mGh) (hG : mOk G) (S : mS) (a1 : Int32) {r : Int32} (hr : fm_isPlace S a1 = r) : Met l yX3_isPlace (ws_ yX3_isPlace cX3_isPlace 2 (some .boolean)) ({ frames := 1, cells := 0, slots := 0, locals := 25 } : Room) (mPc G [.int a1] S) (mQi G r S) 0 0 (zA G) := by
  refine m_met cX3_isPlace (by decide) rfl hG (Nat.le_of_ble_eq_true rfl) (fun p e s m args below meth c C hret hlk ls hX hl => ?_)
  have hx := C.1.1
  have hb := C.1.2.1
  have hown := C.1.2.2.2.1
  have hts := C.1.2.2.2.2
  have hS : va_S (zA G) s.heap s.heap [] := va_S.rf
  have hl : lv_has ls 2 [(0, .ref (zh G)), (1, .int a1)] := hl
  unfold fm_isPlace at hr
  refine lv_iload_n hx hb dX3_isPlace_0 rfl (lv_at hl 1 rfl) ?_
  refine lv_i2l (v := a1.toInt64) hx hb dX3_isPlace_1 rfl ?_
  refine lv_lconst (v := 0) hx hb dX3_isPlace_2 (by decide) ?_
  refine lv_aload_n hx hb dX3_isPlace_3 rfl (lv_at hl 0 rfl) ?_
  refine m_gi (k := 0) C q1698 rfl hX dX3_isPlace_4 ?_
  refine lv_iconst (v := 1) hx hb dX3_isPlace_7 (by decide) ?_
  refine lv_isub hx hb dX3_isPlace_8 ?_
  refine lv_i2l (v := ((gI S 0) - (1 : Int32)).toInt64) hx hb dX3_isPlace_9 rfl ?_
  refine m_csi (As := [.long a1.toInt64, .long (0 : Int64), .long (((gI S 0) - (1 : Int32)).toInt64)]) (rest := []) C hX hS hl.1 (cm_in l a1.toInt64 (0 : Int64) (((gI S 0) - (1 : Int32)).toInt64) rfl) (va_cwS 3 hts (lw_S q1974 q1975 q109 q1976) rfl rfl rfl (by decide +kernel) ⟨Nat.le_of_ble_eq_true rfl, Nat.le_of_ble_eq_true rfl⟩) rfl rfl (Nat.le_of_ble_eq_true rfl) dX3_isPlace_10 (fun H locs hX hS => ?_)
  exact m_rz (C := C) hret hlk hX hS (bm_in ..) hr dX3_isPlace_13

def fm_step (S : mS) (a1 : Int32) (a2 : Int32) (a3 : Int32) (a4 : Int32) (a5 : Int32) (a6 : Int32) : Option (mS × Int32) :=
  (if (fm_isPlace S a1) = 0 then
  some (S, (-1 : Int32))
  else
  (if (fm_isPlace S a2) = 0 then
  some (S, (-1 : Int32))
  else
  (if a1 = a2 then
  some (S, (-1 : Int32))
  else
  (if (fm_in a3.toInt64 (0 : Int64) (4 : Int64)) = 0 then
  some (S, (-1 : Int32))
  else
  (if (fm_in a4.toInt64 (1 : Int64) (9 : Int64)) = 0 then
  some (S, (-1 : Int32))
  else
  (if (fm_in a5.toInt64 (0 : Int64) (5 : Int64)) = 0 then
  some (S, (-1 : Int32))
  else
  (if (gI S 2) = (20 : Int32) then
  some (S, (-3 : Int32))
  else
  (tI S 3 (gI S 2) a1).bind fun x8 =>
  (tI x8 4 (gI x8 2) a2).bind fun x9 =>
  (tI x9 5 (gI x9 2) a3).bind fun x10 =>
  (tI x10 6 (gI x10 2) a4).bind fun x11 =>
  (tI x11 7 (gI x11 2) a5).bind fun x12 =>
  (tZ x12 8 (gI x12 2) a6).bind fun x13 =>
  (pI x13 2 ((gI x13 2) + (1 : Int32))).bind fun x14 =>
  some (x14, ((gI x14 2) - (1 : Int32))))))))))
set_option maxHeartbeats 4000000 in
set_option maxRecDepth 100000 in
theorem cm_step (l : Launch) (G : mGh) (hG : mOk G) (S : mS) (a1 : Int32) (a2 : Int32) (a3 : Int32) (a4 : Int32) (a5 : Int32) (a6 : Int32) {S' : mS} {r : Int32} (hr : fm_step S a1 a2 a3 a4 a5 a6 = some (S', r)) : Met l yX3_step (ws_ yX3_step cX3_step 7 (some .int)) ({ frames := 2, cells := 0, slots := 0, locals := 46 } : Room) (mPc G [.int a1, .int a2, .int a3, .int a4, .int a5, .int a6] S) (mQi G r S') 0 0 (zA G) := by
  refine m_met cX3_step (by decide) rfl hG (Nat.le_of_ble_eq_true rfl) (fun p e s m args below meth c C hret hlk ls hX hl => ?_)
  have hx := C.1.1
  have hb := C.1.2.1
  have hown := C.1.2.2.2.1
  have hts := C.1.2.2.2.2
  have hS : va_S (zA G) s.heap s.heap [] := va_S.rf
  have hl : lv_has ls 7 [(0, .ref (zh G)), (1, .int a1), (2, .int a2), (3, .int a3), (4, .int a4), (5, .int a5), (6, .int a6)] := hl
  unfold fm_step at hr
  refine lv_aload_n hx hb dX3_step_0 rfl (lv_at hl 0 rfl) ?_
  refine lv_iload_n hx hb dX3_step_1 rfl (lv_at hl 1 rfl) ?_
  refine m_cvi (As := [.int a1]) (rest := []) C hX hS hl.1 (cm_isPlace l G hG S a1 rfl) (cwV 1 hts (lw_V q1981 q1983 qs50 q109 q1984) rfl rfl rfl (by decide +kernel) ⟨Nat.le_of_ble_eq_true rfl, Nat.le_of_ble_eq_true rfl⟩) rfl rfl (Nat.le_of_ble_eq_true rfl) dX3_step_2 (fun H locs hX hS => ?_)
  refine lv_if_eq (tgt := 59) hx hb dX3_step_5 (by decide) (fun c1 => ?_) (fun c1 => ?_)
  · replace hr := it c1 hr
    refine lv_iconst (v := -1) hx hb dX3_step_59 (by decide) ?_
    exact m_riw (C := C) hret hlk hX hS (Option.some.inj hr) dX3_step_60
  · replace hr := ie c1 hr
    refine lv_aload_n hx hb dX3_step_8 rfl (lv_at hl 0 rfl) ?_
    refine lv_iload_n hx hb dX3_step_9 rfl (lv_at hl 2 rfl) ?_
    refine m_cvi (As := [.int a2]) (rest := []) C hX hS hl.1 (cm_isPlace l G hG S a2 rfl) (cwV 1 hts (lw_V q1981 q1983 qs50 q109 q1984) rfl rfl rfl (by decide +kernel) ⟨Nat.le_of_ble_eq_true rfl, Nat.le_of_ble_eq_true rfl⟩) rfl rfl (Nat.le_of_ble_eq_true rfl) dX3_step_10 (fun H locs hX hS => ?_)
    refine lv_if_eq (tgt := 59) hx hb dX3_step_13 (by decide) (fun c2 => ?_) (fun c2 => ?_)
    · replace hr := it c2 hr
      refine lv_iconst (v := -1) hx hb dX3_step_59 (by decide) ?_
      exact m_riw (C := C) hret hlk hX hS (Option.some.inj hr) dX3_step_60
    · replace hr := ie c2 hr
      refine lv_iload_n hx hb dX3_step_16 rfl (lv_at hl 1 rfl) ?_
      refine lv_iload_n hx hb dX3_step_17 rfl (lv_at hl 2 rfl) ?_
      refine lv_icmp_eq (tgt := 59) hx hb dX3_step_18 (by decide) (fun c3 => ?_) (fun c3 => ?_)
      · replace hr := it c3 hr
        refine lv_iconst (v := -1) hx hb dX3_step_59 (by decide) ?_
        exact m_riw (C := C) hret hlk hX hS (Option.some.inj hr) dX3_step_60
      · replace hr := ie c3 hr
        refine lv_iload_n hx hb dX3_step_21 rfl (lv_at hl 3 rfl) ?_
        refine lv_i2l (v := a3.toInt64) hx hb dX3_step_22 rfl ?_
        refine lv_lconst (v := 0) hx hb dX3_step_23 (by decide) ?_
        refine lv_ldc2 hx hb hown (hts _ q1985) dX3_step_24 ?_
        refine m_csi (As := [.long a3.toInt64, .long (0 : Int64), .long (4 : Int64)]) (rest := []) C hX hS hl.1 (cm_in l a3.toInt64 (0 : Int64) (4 : Int64) rfl) (va_cwS 3 hts (lw_S q1974 q1975 q109 q1976) rfl rfl rfl (by decide +kernel) ⟨Nat.le_of_ble_eq_true rfl, Nat.le_of_ble_eq_true rfl⟩) rfl rfl (Nat.le_of_ble_eq_true rfl) dX3_step_27 (fun H locs hX hS => ?_)
        refine lv_if_eq (tgt := 59) hx hb dX3_step_30 (by decide) (fun c4 => ?_) (fun c4 => ?_)
        · replace hr := it c4 hr
          refine lv_iconst (v := -1) hx hb dX3_step_59 (by decide) ?_
          exact m_riw (C := C) hret hlk hX hS (Option.some.inj hr) dX3_step_60
        · replace hr := ie c4 hr
          refine lv_iload hx hb dX3_step_33 (lv_at hl 4 rfl) ?_
          refine lv_i2l (v := a4.toInt64) hx hb dX3_step_35 rfl ?_
          refine lv_lconst (v := 1) hx hb dX3_step_36 (by decide) ?_
          refine lv_ldc2 hx hb hown (hts _ q1973) dX3_step_37 ?_
          refine m_csi (As := [.long a4.toInt64, .long (1 : Int64), .long (9 : Int64)]) (rest := []) C hX hS hl.1 (cm_in l a4.toInt64 (1 : Int64) (9 : Int64) rfl) (va_cwS 3 hts (lw_S q1974 q1975 q109 q1976) rfl rfl rfl (by decide +kernel) ⟨Nat.le_of_ble_eq_true rfl, Nat.le_of_ble_eq_true rfl⟩) rfl rfl (Nat.le_of_ble_eq_true rfl) dX3_step_40 (fun H locs hX hS => ?_)
          refine lv_if_eq (tgt := 59) hx hb dX3_step_43 (by decide) (fun c5 => ?_) (fun c5 => ?_)
          · replace hr := it c5 hr
            refine lv_iconst (v := -1) hx hb dX3_step_59 (by decide) ?_
            exact m_riw (C := C) hret hlk hX hS (Option.some.inj hr) dX3_step_60
          · replace hr := ie c5 hr
            refine lv_iload hx hb dX3_step_46 (lv_at hl 5 rfl) ?_
            refine lv_i2l (v := a5.toInt64) hx hb dX3_step_48 rfl ?_
            refine lv_lconst (v := 0) hx hb dX3_step_49 (by decide) ?_
            refine lv_ldc2 hx hb hown (hts _ q1986) dX3_step_50 ?_
            refine m_csi (As := [.long a5.toInt64, .long (0 : Int64), .long (5 : Int64)]) (rest := []) C hX hS hl.1 (cm_in l a5.toInt64 (0 : Int64) (5 : Int64) rfl) (va_cwS 3 hts (lw_S q1974 q1975 q109 q1976) rfl rfl rfl (by decide +kernel) ⟨Nat.le_of_ble_eq_true rfl, Nat.le_of_ble_eq_true rfl⟩) rfl rfl (Nat.le_of_ble_eq_true rfl) dX3_step_53 (fun H locs hX hS => ?_)
            refine lv_if_ne (tgt := 61) hx hb dX3_step_56 (by decide) (fun c6 => ?_) (fun c6 => ?_)
            · replace hr := ie c6 hr
              refine lv_aload_n hx hb dX3_step_61 rfl (lv_at hl 0 rfl) ?_
              refine m_gi (k := 2) C q1700 rfl hX dX3_step_62 ?_
              refine lv_bipush (v := 20) hx hb dX3_step_65 (by decide) ?_
              refine lv_icmp_ne (tgt := 73) hx hb dX3_step_67 (by decide) (fun c7 => ?_) (fun c7 => ?_)
              · replace hr := ie c7 hr
                refine lv_aload_n hx hb dX3_step_73 rfl (lv_at hl 0 rfl) ?_
                refine m_ga (k := 3) (d := 0) C q1701 rfl (by decide) hX dX3_step_74 ?_
                refine lv_aload_n hx hb dX3_step_77 rfl (lv_at hl 0 rfl) ?_
                refine m_gi (k := 2) C q1700 rfl hX dX3_step_78 ?_
                refine lv_iload_n hx hb dX3_step_81 rfl (lv_at hl 1 rfl) ?_
                obtain ⟨x8, e8, hr⟩ := ob hr
                refine m_is (k := 3) C rfl hX hS e8 dX3_step_82 (fun H locs hX hS => ?_)
                refine lv_aload_n hx hb dX3_step_83 rfl (lv_at hl 0 rfl) ?_
                refine m_ga (k := 4) (d := 0) C q1702 rfl (by decide) hX dX3_step_84 ?_
                refine lv_aload_n hx hb dX3_step_87 rfl (lv_at hl 0 rfl) ?_
                refine m_gi (k := 2) C q1700 rfl hX dX3_step_88 ?_
                refine lv_iload_n hx hb dX3_step_91 rfl (lv_at hl 2 rfl) ?_
                obtain ⟨x9, e9, hr⟩ := ob hr
                refine m_is (k := 4) C rfl hX hS e9 dX3_step_92 (fun H locs hX hS => ?_)
                refine lv_aload_n hx hb dX3_step_93 rfl (lv_at hl 0 rfl) ?_
                refine m_ga (k := 5) (d := 0) C q1703 rfl (by decide) hX dX3_step_94 ?_
                refine lv_aload_n hx hb dX3_step_97 rfl (lv_at hl 0 rfl) ?_
                refine m_gi (k := 2) C q1700 rfl hX dX3_step_98 ?_
                refine lv_iload_n hx hb dX3_step_101 rfl (lv_at hl 3 rfl) ?_
                obtain ⟨x10, e10, hr⟩ := ob hr
                refine m_is (k := 5) C rfl hX hS e10 dX3_step_102 (fun H locs hX hS => ?_)
                refine lv_aload_n hx hb dX3_step_103 rfl (lv_at hl 0 rfl) ?_
                refine m_ga (k := 6) (d := 0) C q1704 rfl (by decide) hX dX3_step_104 ?_
                refine lv_aload_n hx hb dX3_step_107 rfl (lv_at hl 0 rfl) ?_
                refine m_gi (k := 2) C q1700 rfl hX dX3_step_108 ?_
                refine lv_iload hx hb dX3_step_111 (lv_at hl 4 rfl) ?_
                obtain ⟨x11, e11, hr⟩ := ob hr
                refine m_is (k := 6) C rfl hX hS e11 dX3_step_113 (fun H locs hX hS => ?_)
                refine lv_aload_n hx hb dX3_step_114 rfl (lv_at hl 0 rfl) ?_
                refine m_ga (k := 7) (d := 0) C q1705 rfl (by decide) hX dX3_step_115 ?_
                refine lv_aload_n hx hb dX3_step_118 rfl (lv_at hl 0 rfl) ?_
                refine m_gi (k := 2) C q1700 rfl hX dX3_step_119 ?_
                refine lv_iload hx hb dX3_step_122 (lv_at hl 5 rfl) ?_
                obtain ⟨x12, e12, hr⟩ := ob hr
                refine m_is (k := 7) C rfl hX hS e12 dX3_step_124 (fun H locs hX hS => ?_)
                refine lv_aload_n hx hb dX3_step_125 rfl (lv_at hl 0 rfl) ?_
                refine m_ga (k := 8) (d := 1) C q1706 rfl (by decide) hX dX3_step_126 ?_
                refine lv_aload_n hx hb dX3_step_129 rfl (lv_at hl 0 rfl) ?_
                refine m_gi (k := 2) C q1700 rfl hX dX3_step_130 ?_
                refine lv_iload hx hb dX3_step_133 (lv_at hl 6 rfl) ?_
                obtain ⟨x13, e13, hr⟩ := ob hr
                refine m_zs (k := 8) C rfl hX hS e13 dX3_step_135 (fun H locs hX hS => ?_)
                refine lv_aload_n hx hb dX3_step_136 rfl (lv_at hl 0 rfl) ?_
                refine lv_dup hx hb dX3_step_137 rfl ?_
                refine m_gi (k := 2) C q1700 rfl hX dX3_step_138 ?_
                refine lv_iconst (v := 1) hx hb dX3_step_141 (by decide) ?_
                refine lv_iadd hx hb dX3_step_142 ?_
                obtain ⟨x14, e14, hr⟩ := ob hr
                refine m_pi (k := 2) C q1700 rfl hX hS e14 dX3_step_143 (fun H locs hX hS => ?_)
                refine lv_aload_n hx hb dX3_step_146 rfl (lv_at hl 0 rfl) ?_
                refine m_gi (k := 2) C q1700 rfl hX dX3_step_147 ?_
                refine lv_iconst (v := 1) hx hb dX3_step_150 (by decide) ?_
                refine lv_isub hx hb dX3_step_151 ?_
                exact m_riw (C := C) hret hlk hX hS (Option.some.inj hr) dX3_step_152
              · replace hr := it c7 hr
                refine lv_bipush (v := -3) hx hb dX3_step_70 (by decide) ?_
                exact m_riw (C := C) hret hlk hX hS (Option.some.inj hr) dX3_step_72
            · replace hr := it c6 hr
              refine lv_iconst (v := -1) hx hb dX3_step_59 (by decide) ?_
              exact m_riw (C := C) hret hlk hX hS (Option.some.inj hr) dX3_step_60

def fm_isStep (S : mS) (a1 : Int32) : Int32 :=
  (fm_in a1.toInt64 (0 : Int64) (((gI S 2) - (1 : Int32)).toInt64))
theorem bm_isStep (S : mS) (a1 : Int32) : fm_isStep S a1 = 0 ∨ fm_isStep S a1 = 1 := by
  unfold fm_isStep
  (repeat' split) <;> first | exact Or.inl rfl | exact Or.inr rfl | (apply bm_in)
set_option maxHeartbeats 4000000 in
set_option maxRecDepth 100000 in
theorem cm_isStep (l : Launch) (G : mGh) (hG : mOk G) (S : mS) (a1 : Int32) {r : Int32} (hr : fm_isStep S a1 = r) : Met l yX3_isStep (ws_ yX3_isStep cX3_isStep 2 (some .boolean)) ({ frames := 1, cells := 0, slots := 0, locals := 25 } : Room) (mPc G [.int a1] S) (mQi G r S) 0 0 (zA G) := by
  refine m_met cX3_isStep (by decide) rfl hG (Nat.le_of_ble_eq_true rfl) (fun p e s m args below meth c C hret hlk ls hX hl => ?_)
  have hx := C.1.1
  have hb := C.1.2.1
  have hown := C.1.2.2.2.1
  have hts := C.1.2.2.2.2
  have hS : va_S (zA G) s.heap s.heap [] := va_S.rf
  have hl : lv_has ls 2 [(0, .ref (zh G)), (1, .int a1)] := hl
  unfold fm_isStep at hr
  refine lv_iload_n hx hb dX3_isStep_0 rfl (lv_at hl 1 rfl) ?_
  refine lv_i2l (v := a1.toInt64) hx hb dX3_isStep_1 rfl ?_
  refine lv_lconst (v := 0) hx hb dX3_isStep_2 (by decide) ?_
  refine lv_aload_n hx hb dX3_isStep_3 rfl (lv_at hl 0 rfl) ?_
  refine m_gi (k := 2) C q1700 rfl hX dX3_isStep_4 ?_
  refine lv_iconst (v := 1) hx hb dX3_isStep_7 (by decide) ?_
  refine lv_isub hx hb dX3_isStep_8 ?_
  refine lv_i2l (v := ((gI S 2) - (1 : Int32)).toInt64) hx hb dX3_isStep_9 rfl ?_
  refine m_csi (As := [.long a1.toInt64, .long (0 : Int64), .long (((gI S 2) - (1 : Int32)).toInt64)]) (rest := []) C hX hS hl.1 (cm_in l a1.toInt64 (0 : Int64) (((gI S 2) - (1 : Int32)).toInt64) rfl) (va_cwS 3 hts (lw_S q1974 q1975 q109 q1976) rfl rfl rfl (by decide +kernel) ⟨Nat.le_of_ble_eq_true rfl, Nat.le_of_ble_eq_true rfl⟩) rfl rfl (Nat.le_of_ble_eq_true rfl) dX3_isStep_10 (fun H locs hX hS => ?_)
  exact m_rz (C := C) hret hlk hX hS (bm_in ..) hr dX3_isStep_13

def fm_stepOf (S : mS) (a1 : Int32) (a2 : Int32) : Option Int32 :=
  (if (fm_isStep S a1) = 0 then
  some (-1 : Int32)
  else
  (if (fm_in a2.toInt64 (0 : Int64) (5 : Int64)) = 0 then
  some (-1 : Int32)
  else
  (if a2 = 0 then
  (aI S 3 a1).bind fun x14 =>
  some x14
  else
  (if a2 = (1 : Int32) then
  (aI S 4 a1).bind fun x13 =>
  some x13
  else
  (if a2 = (2 : Int32) then
  (aI S 5 a1).bind fun x12 =>
  some x12
  else
  (if a2 = (3 : Int32) then
  (aI S 6 a1).bind fun x11 =>
  some x11
  else
  (if a2 = (4 : Int32) then
  (aI S 7 a1).bind fun x10 =>
  some x10
  else
  (aI S 8 a1).bind fun x8 =>
  (if x8 = 0 then
  some (0 : Int32)
  else
  some (1 : Int32)))))))))
set_option maxHeartbeats 4000000 in
set_option maxRecDepth 100000 in
theorem cm_stepOf (l : Launch) (G : mGh) (hG : mOk G) (S : mS) (a1 : Int32) (a2 : Int32) {r : Int32} (hr : fm_stepOf S a1 a2 = some r) : Met l yX3_stepOf (ws_ yX3_stepOf cX3_stepOf 3 (some .int)) ({ frames := 2, cells := 0, slots := 0, locals := 46 } : Room) (mPc G [.int a1, .int a2] S) (mQi G r S) 0 0 (zA G) := by
  refine m_met cX3_stepOf (by decide) rfl hG (Nat.le_of_ble_eq_true rfl) (fun p e s m args below meth c C hret hlk ls hX hl => ?_)
  have hx := C.1.1
  have hb := C.1.2.1
  have hown := C.1.2.2.2.1
  have hts := C.1.2.2.2.2
  have hS : va_S (zA G) s.heap s.heap [] := va_S.rf
  have hl : lv_has ls 3 [(0, .ref (zh G)), (1, .int a1), (2, .int a2)] := hl
  unfold fm_stepOf at hr
  refine lv_aload_n hx hb dX3_stepOf_0 rfl (lv_at hl 0 rfl) ?_
  refine lv_iload_n hx hb dX3_stepOf_1 rfl (lv_at hl 1 rfl) ?_
  refine m_cvi (As := [.int a1]) (rest := []) C hX hS hl.1 (cm_isStep l G hG S a1 rfl) (cwV 1 hts (lw_V q1991 q1993 qs51 q109 q1994) rfl rfl rfl (by decide +kernel) ⟨Nat.le_of_ble_eq_true rfl, Nat.le_of_ble_eq_true rfl⟩) rfl rfl (Nat.le_of_ble_eq_true rfl) dX3_stepOf_2 (fun H locs hX hS => ?_)
  refine lv_if_eq (tgt := 20) hx hb dX3_stepOf_5 (by decide) (fun c1 => ?_) (fun c1 => ?_)
  · replace hr := it c1 hr
    refine lv_iconst (v := -1) hx hb dX3_stepOf_20 (by decide) ?_
    exact m_ri (C := C) hret hlk hX hS (Option.some.inj hr) dX3_stepOf_21
  · replace hr := ie c1 hr
    refine lv_iload_n hx hb dX3_stepOf_8 rfl (lv_at hl 2 rfl) ?_
    refine lv_i2l (v := a2.toInt64) hx hb dX3_stepOf_9 rfl ?_
    refine lv_lconst (v := 0) hx hb dX3_stepOf_10 (by decide) ?_
    refine lv_ldc2 hx hb hown (hts _ q1986) dX3_stepOf_11 ?_
    refine m_csi (As := [.long a2.toInt64, .long (0 : Int64), .long (5 : Int64)]) (rest := []) C hX hS hl.1 (cm_in l a2.toInt64 (0 : Int64) (5 : Int64) rfl) (va_cwS 3 hts (lw_S q1974 q1975 q109 q1976) rfl rfl rfl (by decide +kernel) ⟨Nat.le_of_ble_eq_true rfl, Nat.le_of_ble_eq_true rfl⟩) rfl rfl (Nat.le_of_ble_eq_true rfl) dX3_stepOf_14 (fun H locs hX hS => ?_)
    refine lv_if_ne (tgt := 22) hx hb dX3_stepOf_17 (by decide) (fun c2 => ?_) (fun c2 => ?_)
    · replace hr := ie c2 hr
      refine lv_iload_n hx hb dX3_stepOf_22 rfl (lv_at hl 2 rfl) ?_
      refine lv_if_ne (tgt := 35) hx hb dX3_stepOf_23 (by decide) (fun c3 => ?_) (fun c3 => ?_)
      · replace hr := ie c3 hr
        refine lv_iload_n hx hb dX3_stepOf_35 rfl (lv_at hl 2 rfl) ?_
        refine lv_iconst (v := 1) hx hb dX3_stepOf_36 (by decide) ?_
        refine lv_icmp_ne (tgt := 49) hx hb dX3_stepOf_37 (by decide) (fun c4 => ?_) (fun c4 => ?_)
        · replace hr := ie c4 hr
          refine lv_iload_n hx hb dX3_stepOf_49 rfl (lv_at hl 2 rfl) ?_
          refine lv_iconst (v := 2) hx hb dX3_stepOf_50 (by decide) ?_
          refine lv_icmp_ne (tgt := 63) hx hb dX3_stepOf_51 (by decide) (fun c5 => ?_) (fun c5 => ?_)
          · replace hr := ie c5 hr
            refine lv_iload_n hx hb dX3_stepOf_63 rfl (lv_at hl 2 rfl) ?_
            refine lv_iconst (v := 3) hx hb dX3_stepOf_64 (by decide) ?_
            refine lv_icmp_ne (tgt := 77) hx hb dX3_stepOf_65 (by decide) (fun c6 => ?_) (fun c6 => ?_)
            · replace hr := ie c6 hr
              refine lv_iload_n hx hb dX3_stepOf_77 rfl (lv_at hl 2 rfl) ?_
              refine lv_iconst (v := 4) hx hb dX3_stepOf_78 (by decide) ?_
              refine lv_icmp_ne (tgt := 91) hx hb dX3_stepOf_79 (by decide) (fun c7 => ?_) (fun c7 => ?_)
              · replace hr := ie c7 hr
                refine lv_aload_n hx hb dX3_stepOf_91 rfl (lv_at hl 0 rfl) ?_
                refine m_ga (k := 8) (d := 1) C q1706 rfl (by decide) hX dX3_stepOf_92 ?_
                refine lv_iload_n hx hb dX3_stepOf_95 rfl (lv_at hl 1 rfl) ?_
                obtain ⟨x8, e8, hr⟩ := ob hr
                refine m_za (k := 8) C rfl hX e8 dX3_stepOf_96 ?_
                refine lv_if_eq (tgt := 104) hx hb dX3_stepOf_97 (by decide) (fun c9 => ?_) (fun c9 => ?_)
                · replace hr := it c9 hr
                  refine lv_iconst (v := 0) hx hb dX3_stepOf_104 (by decide) ?_
                  exact m_ri (C := C) hret hlk hX hS (Option.some.inj hr) dX3_stepOf_105
                · replace hr := ie c9 hr
                  refine lv_iconst (v := 1) hx hb dX3_stepOf_100 (by decide) ?_
                  refine lv_goto (tgt := 105) hx hb dX3_stepOf_101 (by decide) ?_
                  exact m_ri (C := C) hret hlk hX hS (Option.some.inj hr) dX3_stepOf_105
              · replace hr := it c7 hr
                refine lv_aload_n hx hb dX3_stepOf_82 rfl (lv_at hl 0 rfl) ?_
                refine m_ga (k := 7) (d := 0) C q1705 rfl (by decide) hX dX3_stepOf_83 ?_
                refine lv_iload_n hx hb dX3_stepOf_86 rfl (lv_at hl 1 rfl) ?_
                obtain ⟨x10, e10, hr⟩ := ob hr
                refine m_ia (k := 7) C rfl hX e10 dX3_stepOf_87 ?_
                refine lv_goto (tgt := 105) hx hb dX3_stepOf_88 (by decide) ?_
                exact m_ri (C := C) hret hlk hX hS (Option.some.inj hr) dX3_stepOf_105
            · replace hr := it c6 hr
              refine lv_aload_n hx hb dX3_stepOf_68 rfl (lv_at hl 0 rfl) ?_
              refine m_ga (k := 6) (d := 0) C q1704 rfl (by decide) hX dX3_stepOf_69 ?_
              refine lv_iload_n hx hb dX3_stepOf_72 rfl (lv_at hl 1 rfl) ?_
              obtain ⟨x11, e11, hr⟩ := ob hr
              refine m_ia (k := 6) C rfl hX e11 dX3_stepOf_73 ?_
              refine lv_goto (tgt := 105) hx hb dX3_stepOf_74 (by decide) ?_
              exact m_ri (C := C) hret hlk hX hS (Option.some.inj hr) dX3_stepOf_105
          · replace hr := it c5 hr
            refine lv_aload_n hx hb dX3_stepOf_54 rfl (lv_at hl 0 rfl) ?_
            refine m_ga (k := 5) (d := 0) C q1703 rfl (by decide) hX dX3_stepOf_55 ?_
            refine lv_iload_n hx hb dX3_stepOf_58 rfl (lv_at hl 1 rfl) ?_
            obtain ⟨x12, e12, hr⟩ := ob hr
            refine m_ia (k := 5) C rfl hX e12 dX3_stepOf_59 ?_
            refine lv_goto (tgt := 105) hx hb dX3_stepOf_60 (by decide) ?_
            exact m_ri (C := C) hret hlk hX hS (Option.some.inj hr) dX3_stepOf_105
        · replace hr := it c4 hr
          refine lv_aload_n hx hb dX3_stepOf_40 rfl (lv_at hl 0 rfl) ?_
          refine m_ga (k := 4) (d := 0) C q1702 rfl (by decide) hX dX3_stepOf_41 ?_
          refine lv_iload_n hx hb dX3_stepOf_44 rfl (lv_at hl 1 rfl) ?_
          obtain ⟨x13, e13, hr⟩ := ob hr
          refine m_ia (k := 4) C rfl hX e13 dX3_stepOf_45 ?_
          refine lv_goto (tgt := 105) hx hb dX3_stepOf_46 (by decide) ?_
          exact m_ri (C := C) hret hlk hX hS (Option.some.inj hr) dX3_stepOf_105
      · replace hr := it c3 hr
        refine lv_aload_n hx hb dX3_stepOf_26 rfl (lv_at hl 0 rfl) ?_
        refine m_ga (k := 3) (d := 0) C q1701 rfl (by decide) hX dX3_stepOf_27 ?_
        refine lv_iload_n hx hb dX3_stepOf_30 rfl (lv_at hl 1 rfl) ?_
        obtain ⟨x14, e14, hr⟩ := ob hr
        refine m_ia (k := 3) C rfl hX e14 dX3_stepOf_31 ?_
        refine lv_goto (tgt := 105) hx hb dX3_stepOf_32 (by decide) ?_
        exact m_ri (C := C) hret hlk hX hS (Option.some.inj hr) dX3_stepOf_105
    · replace hr := it c2 hr
      refine lv_iconst (v := -1) hx hb dX3_stepOf_20 (by decide) ?_
      exact m_ri (C := C) hret hlk hX hS (Option.some.inj hr) dX3_stepOf_21

def fm_route (S : mS) (a1 : Int32) : Option (mS × Int32) :=
  (if (fm_isStep S a1) = 0 then
  some (S, (-1 : Int32))
  else
  (if (gI S 9) = (6 : Int32) then
  some (S, (-3 : Int32))
  else
  (tI S 11 ((6 : Int32) * (gI S 9)) a1).bind fun x3 =>
  (tI x3 10 (gI x3 9) (1 : Int32)).bind fun x4 =>
  (pI x4 9 ((gI x4 9) + (1 : Int32))).bind fun x5 =>
  some (x5, ((gI x5 9) - (1 : Int32)))))
set_option maxHeartbeats 4000000 in
set_option maxRecDepth 100000 in
theorem cm_route (l : Launch) (G : mGh) (hG : mOk G) (S : mS) (a1 : Int32) {S' : mS} {r : Int32} (hr : fm_route S a1 = some (S', r)) : Met l yX3_route (ws_ yX3_route cX3_route 2 (some .int)) ({ frames := 2, cells := 0, slots := 0, locals := 46 } : Room) (mPc G [.int a1] S) (mQi G r S') 0 0 (zA G) := by
  refine m_met cX3_route (by decide) rfl hG (Nat.le_of_ble_eq_true rfl) (fun p e s m args below meth c C hret hlk ls hX hl => ?_)
  have hx := C.1.1
  have hb := C.1.2.1
  have hown := C.1.2.2.2.1
  have hts := C.1.2.2.2.2
  have hS : va_S (zA G) s.heap s.heap [] := va_S.rf
  have hl : lv_has ls 2 [(0, .ref (zh G)), (1, .int a1)] := hl
  unfold fm_route at hr
  refine lv_aload_n hx hb dX3_route_0 rfl (lv_at hl 0 rfl) ?_
  refine lv_iload_n hx hb dX3_route_1 rfl (lv_at hl 1 rfl) ?_
  refine m_cvi (As := [.int a1]) (rest := []) C hX hS hl.1 (cm_isStep l G hG S a1 rfl) (cwV 1 hts (lw_V q1991 q1993 qs51 q109 q1994) rfl rfl rfl (by decide +kernel) ⟨Nat.le_of_ble_eq_true rfl, Nat.le_of_ble_eq_true rfl⟩) rfl rfl (Nat.le_of_ble_eq_true rfl) dX3_route_2 (fun H locs hX hS => ?_)
  refine lv_if_ne (tgt := 10) hx hb dX3_route_5 (by decide) (fun c1 => ?_) (fun c1 => ?_)
  · replace hr := ie c1 hr
    refine lv_aload_n hx hb dX3_route_10 rfl (lv_at hl 0 rfl) ?_
    refine m_gi (k := 9) C q1707 rfl hX dX3_route_11 ?_
    refine lv_bipush (v := 6) hx hb dX3_route_14 (by decide) ?_
    refine lv_icmp_ne (tgt := 22) hx hb dX3_route_16 (by decide) (fun c2 => ?_) (fun c2 => ?_)
    · replace hr := ie c2 hr
      refine lv_aload_n hx hb dX3_route_22 rfl (lv_at hl 0 rfl) ?_
      refine m_ga (k := 11) (d := 0) C q1709 rfl (by decide) hX dX3_route_23 ?_
      refine lv_bipush (v := 6) hx hb dX3_route_26 (by decide) ?_
      refine lv_aload_n hx hb dX3_route_28 rfl (lv_at hl 0 rfl) ?_
      refine m_gi (k := 9) C q1707 rfl hX dX3_route_29 ?_
      refine lv_imul hx hb dX3_route_32 ?_
      refine lv_iload_n hx hb dX3_route_33 rfl (lv_at hl 1 rfl) ?_
      obtain ⟨x3, e3, hr⟩ := ob hr
      refine m_is (k := 11) C rfl hX hS e3 dX3_route_34 (fun H locs hX hS => ?_)
      refine lv_aload_n hx hb dX3_route_35 rfl (lv_at hl 0 rfl) ?_
      refine m_ga (k := 10) (d := 0) C q1708 rfl (by decide) hX dX3_route_36 ?_
      refine lv_aload_n hx hb dX3_route_39 rfl (lv_at hl 0 rfl) ?_
      refine m_gi (k := 9) C q1707 rfl hX dX3_route_40 ?_
      refine lv_iconst (v := 1) hx hb dX3_route_43 (by decide) ?_
      obtain ⟨x4, e4, hr⟩ := ob hr
      refine m_is (k := 10) C rfl hX hS e4 dX3_route_44 (fun H locs hX hS => ?_)
      refine lv_aload_n hx hb dX3_route_45 rfl (lv_at hl 0 rfl) ?_
      refine lv_dup hx hb dX3_route_46 rfl ?_
      refine m_gi (k := 9) C q1707 rfl hX dX3_route_47 ?_
      refine lv_iconst (v := 1) hx hb dX3_route_50 (by decide) ?_
      refine lv_iadd hx hb dX3_route_51 ?_
      obtain ⟨x5, e5, hr⟩ := ob hr
      refine m_pi (k := 9) C q1707 rfl hX hS e5 dX3_route_52 (fun H locs hX hS => ?_)
      refine lv_aload_n hx hb dX3_route_55 rfl (lv_at hl 0 rfl) ?_
      refine m_gi (k := 9) C q1707 rfl hX dX3_route_56 ?_
      refine lv_iconst (v := 1) hx hb dX3_route_59 (by decide) ?_
      refine lv_isub hx hb dX3_route_60 ?_
      exact m_riw (C := C) hret hlk hX hS (Option.some.inj hr) dX3_route_61
    · replace hr := it c2 hr
      refine lv_bipush (v := -3) hx hb dX3_route_19 (by decide) ?_
      exact m_riw (C := C) hret hlk hX hS (Option.some.inj hr) dX3_route_21
  · replace hr := it c1 hr
    refine lv_iconst (v := -1) hx hb dX3_route_8 (by decide) ?_
    exact m_riw (C := C) hret hlk hX hS (Option.some.inj hr) dX3_route_9

def fm_isRoute (S : mS) (a1 : Int32) : Int32 :=
  (fm_in a1.toInt64 (0 : Int64) (((gI S 9) - (1 : Int32)).toInt64))
theorem bm_isRoute (S : mS) (a1 : Int32) : fm_isRoute S a1 = 0 ∨ fm_isRoute S a1 = 1 := by
  unfold fm_isRoute
  (repeat' split) <;> first | exact Or.inl rfl | exact Or.inr rfl | (apply bm_in)
set_option maxHeartbeats 4000000 in
set_option maxRecDepth 100000 in
theorem cm_isRoute (l : Launch) (G : mGh) (hG : mOk G) (S : mS) (a1 : Int32) {r : Int32} (hr : fm_isRoute S a1 = r) : Met l yX3_isRoute (ws_ yX3_isRoute cX3_isRoute 2 (some .boolean)) ({ frames := 1, cells := 0, slots := 0, locals := 25 } : Room) (mPc G [.int a1] S) (mQi G r S) 0 0 (zA G) := by
  refine m_met cX3_isRoute (by decide) rfl hG (Nat.le_of_ble_eq_true rfl) (fun p e s m args below meth c C hret hlk ls hX hl => ?_)
  have hx := C.1.1
  have hb := C.1.2.1
  have hown := C.1.2.2.2.1
  have hts := C.1.2.2.2.2
  have hS : va_S (zA G) s.heap s.heap [] := va_S.rf
  have hl : lv_has ls 2 [(0, .ref (zh G)), (1, .int a1)] := hl
  unfold fm_isRoute at hr
  refine lv_iload_n hx hb dX3_isRoute_0 rfl (lv_at hl 1 rfl) ?_
  refine lv_i2l (v := a1.toInt64) hx hb dX3_isRoute_1 rfl ?_
  refine lv_lconst (v := 0) hx hb dX3_isRoute_2 (by decide) ?_
  refine lv_aload_n hx hb dX3_isRoute_3 rfl (lv_at hl 0 rfl) ?_
  refine m_gi (k := 9) C q1707 rfl hX dX3_isRoute_4 ?_
  refine lv_iconst (v := 1) hx hb dX3_isRoute_7 (by decide) ?_
  refine lv_isub hx hb dX3_isRoute_8 ?_
  refine lv_i2l (v := ((gI S 9) - (1 : Int32)).toInt64) hx hb dX3_isRoute_9 rfl ?_
  refine m_csi (As := [.long a1.toInt64, .long (0 : Int64), .long (((gI S 9) - (1 : Int32)).toInt64)]) (rest := []) C hX hS hl.1 (cm_in l a1.toInt64 (0 : Int64) (((gI S 9) - (1 : Int32)).toInt64) rfl) (va_cwS 3 hts (lw_S q1974 q1975 q109 q1976) rfl rfl rfl (by decide +kernel) ⟨Nat.le_of_ble_eq_true rfl, Nat.le_of_ble_eq_true rfl⟩) rfl rfl (Nat.le_of_ble_eq_true rfl) dX3_isRoute_10 (fun H locs hX hS => ?_)
  exact m_rz (C := C) hret hlk hX hS (bm_in ..) hr dX3_isRoute_13

def fm_stepAt (S : mS) (a1 : Int32) (a2 : Int32) : Option Int32 :=
  (aI S 11 (((6 : Int32) * a1) + a2)).bind fun x1 =>
  some x1
set_option maxHeartbeats 4000000 in
set_option maxRecDepth 100000 in
theorem cm_stepAt (l : Launch) (G : mGh) (hG : mOk G) (S : mS) (a1 : Int32) (a2 : Int32) {r : Int32} (hr : fm_stepAt S a1 a2 = some r) : Met l yX3_stepAt (ws_ yX3_stepAt cX3_stepAt 3 (some .int)) ({ frames := 0, cells := 0, slots := 0, locals := 0 } : Room) (mPc G [.int a1, .int a2] S) (mQi G r S) 0 0 (zA G) := by
  refine m_met cX3_stepAt (by decide) rfl hG (Nat.le_of_ble_eq_true rfl) (fun p e s m args below meth c C hret hlk ls hX hl => ?_)
  have hx := C.1.1
  have hb := C.1.2.1
  have hown := C.1.2.2.2.1
  have hts := C.1.2.2.2.2
  have hS : va_S (zA G) s.heap s.heap [] := va_S.rf
  have hl : lv_has ls 3 [(0, .ref (zh G)), (1, .int a1), (2, .int a2)] := hl
  unfold fm_stepAt at hr
  refine lv_aload_n hx hb dX3_stepAt_0 rfl (lv_at hl 0 rfl) ?_
  refine m_ga (k := 11) (d := 0) C q1709 rfl (by decide) hX dX3_stepAt_1 ?_
  refine lv_bipush (v := 6) hx hb dX3_stepAt_4 (by decide) ?_
  refine lv_iload_n hx hb dX3_stepAt_6 rfl (lv_at hl 1 rfl) ?_
  refine lv_imul hx hb dX3_stepAt_7 ?_
  refine lv_iload_n hx hb dX3_stepAt_8 rfl (lv_at hl 2 rfl) ?_
  refine lv_iadd hx hb dX3_stepAt_9 ?_
  obtain ⟨x1, e1, hr⟩ := ob hr
  refine m_ia (k := 11) C rfl hX e1 dX3_stepAt_10 ?_
  exact m_ri (C := C) hret hlk hX hS (Option.some.inj hr) dX3_stepAt_11

def fm_endOf (S : mS) (a1 : Int32) : Option Int32 :=
  (aI S 10 a1).bind fun x1 =>
  (fm_stepAt S a1 (x1 - (1 : Int32))).bind fun x2 =>
  (aI S 4 x2).bind fun x3 =>
  some x3
set_option maxHeartbeats 4000000 in
set_option maxRecDepth 100000 in
theorem cm_endOf (l : Launch) (G : mGh) (hG : mOk G) (S : mS) (a1 : Int32) {r : Int32} (hr : fm_endOf S a1 = some r) : Met l yX3_endOf (ws_ yX3_endOf cX3_endOf 2 (some .int)) ({ frames := 1, cells := 0, slots := 0, locals := 22 } : Room) (mPc G [.int a1] S) (mQi G r S) 0 0 (zA G) := by
  refine m_met cX3_endOf (by decide) rfl hG (Nat.le_of_ble_eq_true rfl) (fun p e s m args below meth c C hret hlk ls hX hl => ?_)
  have hx := C.1.1
  have hb := C.1.2.1
  have hown := C.1.2.2.2.1
  have hts := C.1.2.2.2.2
  have hS : va_S (zA G) s.heap s.heap [] := va_S.rf
  have hl : lv_has ls 2 [(0, .ref (zh G)), (1, .int a1)] := hl
  unfold fm_endOf at hr
  refine lv_aload_n hx hb dX3_endOf_0 rfl (lv_at hl 0 rfl) ?_
  refine m_ga (k := 4) (d := 0) C q1702 rfl (by decide) hX dX3_endOf_1 ?_
  refine lv_aload_n hx hb dX3_endOf_4 rfl (lv_at hl 0 rfl) ?_
  refine lv_iload_n hx hb dX3_endOf_5 rfl (lv_at hl 1 rfl) ?_
  refine lv_aload_n hx hb dX3_endOf_6 rfl (lv_at hl 0 rfl) ?_
  refine m_ga (k := 10) (d := 0) C q1708 rfl (by decide) hX dX3_endOf_7 ?_
  refine lv_iload_n hx hb dX3_endOf_10 rfl (lv_at hl 1 rfl) ?_
  obtain ⟨x1, e1, hr⟩ := ob hr
  refine m_ia (k := 10) C rfl hX e1 dX3_endOf_11 ?_
  refine lv_iconst (v := 1) hx hb dX3_endOf_12 (by decide) ?_
  refine lv_isub hx hb dX3_endOf_13 ?_
  obtain ⟨x2, e2, hr⟩ := ob hr
  refine m_cvi (As := [.int a1, .int (x1 - (1 : Int32))]) (rest := [.ref (zad G 4)]) C hX hS hl.1 (cm_stepAt l G hG S a1 (x1 - (1 : Int32)) e2) (cwV 2 hts (lw_V q2011 q2013 qs54 q109 q2014) rfl rfl rfl (by decide +kernel) ⟨Nat.le_of_ble_eq_true rfl, Nat.le_of_ble_eq_true rfl⟩) rfl rfl (Nat.le_of_ble_eq_true rfl) dX3_endOf_14 (fun H locs hX hS => ?_)
  obtain ⟨x3, e3, hr⟩ := ob hr
  refine m_ia (k := 4) C rfl hX e3 dX3_endOf_17 ?_
  exact m_ri (C := C) hret hlk hX hS (Option.some.inj hr) dX3_endOf_18

def fm_on (S : mS) (a1 : Int32) (a2 : Int32) : Option (mS × Int32) :=
  (if (fm_isRoute S a1) = 0 then
  some (S, (-1 : Int32))
  else
  (if (fm_isStep S a2) = 0 then
  some (S, (-1 : Int32))
  else
  (aI S 3 a2).bind fun x3 =>
  (fm_endOf S a1).bind fun x4 =>
  (if x3 = x4 then
  (aI S 10 a1).bind fun x6 =>
  (if x6 = (6 : Int32) then
  some (S, (-3 : Int32))
  else
  (aI S 10 a1).bind fun x8 =>
  (tI S 11 (((6 : Int32) * a1) + x8) a2).bind fun x9 =>
  (aI x9 10 a1).bind fun x10 =>
  (tI x9 10 a1 (x10 + (1 : Int32))).bind fun x11 =>
  (aI x11 10 a1).bind fun x12 =>
  some (x11, x12))
  else
  some (S, (-2 : Int32)))))
set_option maxHeartbeats 4000000 in
set_option maxRecDepth 100000 in
theorem cm_on (l : Launch) (G : mGh) (hG : mOk G) (S : mS) (a1 : Int32) (a2 : Int32) {S' : mS} {r : Int32} (hr : fm_on S a1 a2 = some (S', r)) : Met l yX3_on (ws_ yX3_on cX3_on 3 (some .int)) ({ frames := 2, cells := 0, slots := 0, locals := 46 } : Room) (mPc G [.int a1, .int a2] S) (mQi G r S') 0 0 (zA G) := by
  refine m_met cX3_on (by decide) rfl hG (Nat.le_of_ble_eq_true rfl) (fun p e s m args below meth c C hret hlk ls hX hl => ?_)
  have hx := C.1.1
  have hb := C.1.2.1
  have hown := C.1.2.2.2.1
  have hts := C.1.2.2.2.2
  have hS : va_S (zA G) s.heap s.heap [] := va_S.rf
  have hl : lv_has ls 3 [(0, .ref (zh G)), (1, .int a1), (2, .int a2)] := hl
  unfold fm_on at hr
  refine lv_aload_n hx hb dX3_on_0 rfl (lv_at hl 0 rfl) ?_
  refine lv_iload_n hx hb dX3_on_1 rfl (lv_at hl 1 rfl) ?_
  refine m_cvi (As := [.int a1]) (rest := []) C hX hS hl.1 (cm_isRoute l G hG S a1 rfl) (cwV 1 hts (lw_V q2003 q2005 qs52 q109 q2006) rfl rfl rfl (by decide +kernel) ⟨Nat.le_of_ble_eq_true rfl, Nat.le_of_ble_eq_true rfl⟩) rfl rfl (Nat.le_of_ble_eq_true rfl) dX3_on_2 (fun H locs hX hS => ?_)
  refine lv_if_eq (tgt := 16) hx hb dX3_on_5 (by decide) (fun c1 => ?_) (fun c1 => ?_)
  · replace hr := it c1 hr
    refine lv_iconst (v := -1) hx hb dX3_on_16 (by decide) ?_
    exact m_riw (C := C) hret hlk hX hS (Option.some.inj hr) dX3_on_17
  · replace hr := ie c1 hr
    refine lv_aload_n hx hb dX3_on_8 rfl (lv_at hl 0 rfl) ?_
    refine lv_iload_n hx hb dX3_on_9 rfl (lv_at hl 2 rfl) ?_
    refine m_cvi (As := [.int a2]) (rest := []) C hX hS hl.1 (cm_isStep l G hG S a2 rfl) (cwV 1 hts (lw_V q1991 q1993 qs51 q109 q1994) rfl rfl rfl (by decide +kernel) ⟨Nat.le_of_ble_eq_true rfl, Nat.le_of_ble_eq_true rfl⟩) rfl rfl (Nat.le_of_ble_eq_true rfl) dX3_on_10 (fun H locs hX hS => ?_)
    refine lv_if_ne (tgt := 18) hx hb dX3_on_13 (by decide) (fun c2 => ?_) (fun c2 => ?_)
    · replace hr := ie c2 hr
      refine lv_aload_n hx hb dX3_on_18 rfl (lv_at hl 0 rfl) ?_
      refine m_ga (k := 3) (d := 0) C q1701 rfl (by decide) hX dX3_on_19 ?_
      refine lv_iload_n hx hb dX3_on_22 rfl (lv_at hl 2 rfl) ?_
      obtain ⟨x3, e3, hr⟩ := ob hr
      refine m_ia (k := 3) C rfl hX e3 dX3_on_23 ?_
      refine lv_aload_n hx hb dX3_on_24 rfl (lv_at hl 0 rfl) ?_
      refine lv_iload_n hx hb dX3_on_25 rfl (lv_at hl 1 rfl) ?_
      obtain ⟨x4, e4, hr⟩ := ob hr
      refine m_cvi (As := [.int a1]) (rest := [.int x3]) C hX hS hl.1 (cm_endOf l G hG S a1 e4) (cwV 1 hts (lw_V q2007 q2009 qs53 q109 q2010) rfl rfl rfl (by decide +kernel) ⟨Nat.le_of_ble_eq_true rfl, Nat.le_of_ble_eq_true rfl⟩) rfl rfl (Nat.le_of_ble_eq_true rfl) dX3_on_26 (fun H locs hX hS => ?_)
      refine lv_icmp_eq (tgt := 35) hx hb dX3_on_29 (by decide) (fun c5 => ?_) (fun c5 => ?_)
      · replace hr := it c5 hr
        refine lv_aload_n hx hb dX3_on_35 rfl (lv_at hl 0 rfl) ?_
        refine m_ga (k := 10) (d := 0) C q1708 rfl (by decide) hX dX3_on_36 ?_
        refine lv_iload_n hx hb dX3_on_39 rfl (lv_at hl 1 rfl) ?_
        obtain ⟨x6, e6, hr⟩ := ob hr
        refine m_ia (k := 10) C rfl hX e6 dX3_on_40 ?_
        refine lv_bipush (v := 6) hx hb dX3_on_41 (by decide) ?_
        refine lv_icmp_ne (tgt := 49) hx hb dX3_on_43 (by decide) (fun c7 => ?_) (fun c7 => ?_)
        · replace hr := ie c7 hr
          refine lv_aload_n hx hb dX3_on_49 rfl (lv_at hl 0 rfl) ?_
          refine m_ga (k := 11) (d := 0) C q1709 rfl (by decide) hX dX3_on_50 ?_
          refine lv_bipush (v := 6) hx hb dX3_on_53 (by decide) ?_
          refine lv_iload_n hx hb dX3_on_55 rfl (lv_at hl 1 rfl) ?_
          refine lv_imul hx hb dX3_on_56 ?_
          refine lv_aload_n hx hb dX3_on_57 rfl (lv_at hl 0 rfl) ?_
          refine m_ga (k := 10) (d := 0) C q1708 rfl (by decide) hX dX3_on_58 ?_
          refine lv_iload_n hx hb dX3_on_61 rfl (lv_at hl 1 rfl) ?_
          obtain ⟨x8, e8, hr⟩ := ob hr
          refine m_ia (k := 10) C rfl hX e8 dX3_on_62 ?_
          refine lv_iadd hx hb dX3_on_63 ?_
          refine lv_iload_n hx hb dX3_on_64 rfl (lv_at hl 2 rfl) ?_
          obtain ⟨x9, e9, hr⟩ := ob hr
          refine m_is (k := 11) C rfl hX hS e9 dX3_on_65 (fun H locs hX hS => ?_)
          refine lv_aload_n hx hb dX3_on_66 rfl (lv_at hl 0 rfl) ?_
          refine m_ga (k := 10) (d := 0) C q1708 rfl (by decide) hX dX3_on_67 ?_
          refine lv_iload_n hx hb dX3_on_70 rfl (lv_at hl 1 rfl) ?_
          refine lv_dup2_11 hx hb dX3_on_71 rfl rfl ?_
          obtain ⟨x10, e10, hr⟩ := ob hr
          refine m_ia (k := 10) C rfl hX e10 dX3_on_72 ?_
          refine lv_iconst (v := 1) hx hb dX3_on_73 (by decide) ?_
          refine lv_iadd hx hb dX3_on_74 ?_
          obtain ⟨x11, e11, hr⟩ := ob hr
          refine m_is (k := 10) C rfl hX hS e11 dX3_on_75 (fun H locs hX hS => ?_)
          refine lv_aload_n hx hb dX3_on_76 rfl (lv_at hl 0 rfl) ?_
          refine m_ga (k := 10) (d := 0) C q1708 rfl (by decide) hX dX3_on_77 ?_
          refine lv_iload_n hx hb dX3_on_80 rfl (lv_at hl 1 rfl) ?_
          obtain ⟨x12, e12, hr⟩ := ob hr
          refine m_ia (k := 10) C rfl hX e12 dX3_on_81 ?_
          exact m_riw (C := C) hret hlk hX hS (Option.some.inj hr) dX3_on_82
        · replace hr := it c7 hr
          refine lv_bipush (v := -3) hx hb dX3_on_46 (by decide) ?_
          exact m_riw (C := C) hret hlk hX hS (Option.some.inj hr) dX3_on_48
      · replace hr := ie c5 hr
        refine lv_bipush (v := -2) hx hb dX3_on_32 (by decide) ?_
        exact m_riw (C := C) hret hlk hX hS (Option.some.inj hr) dX3_on_34
    · replace hr := it c2 hr
      refine lv_iconst (v := -1) hx hb dX3_on_16 (by decide) ?_
      exact m_riw (C := C) hret hlk hX hS (Option.some.inj hr) dX3_on_17

def fm_greatestHard_l4 (S : mS) (a1 : Int32) (t1 : Int32 × Int32) : Option ((Int32 × Int32) ⊕ (Int32)) :=
  (aI S 10 a1).bind fun x4 =>
  (if x4 ≤ t1.2 then
  some (.inr t1.1)
  else
  (fm_stepAt S a1 t1.2).bind fun x6 =>
  (aI S 7 x6).bind fun x7 =>
  (((if x7 ≤ t1.1 then
  some t1.1
  else
  some x7) : Option (Int32))).bind (fun x8 =>
  some (.inl (x8, (t1.2 + (1 : Int32))))))
def fm_greatestHard (S : mS) (a1 : Int32) : Option Int32 :=
  (loopO (fm_greatestHard_l4 S a1) 1000000 ((0 : Int32), (0 : Int32))).bind (fun z3 =>
  some z3)
set_option maxHeartbeats 4000000 in
set_option maxRecDepth 100000 in
theorem cm_greatestHard (l : Launch) (G : mGh) (hG : mOk G) (S : mS) (a1 : Int32) {r : Int32} (hr : fm_greatestHard S a1 = some r) : Met l yX3_greatestHard (ws_ yX3_greatestHard cX3_greatestHard 5 (some .int)) ({ frames := 1, cells := 0, slots := 0, locals := 22 } : Room) (mPc G [.int a1] S) (mQi G r S) 0 0 (zA G) := by
  refine m_met cX3_greatestHard (by decide) rfl hG (Nat.le_of_ble_eq_true rfl) (fun p e s m args below meth c C hret hlk ls hX hl => ?_)
  have hx := C.1.1
  have hb := C.1.2.1
  have hown := C.1.2.2.2.1
  have hts := C.1.2.2.2.2
  have hS : va_S (zA G) s.heap s.heap [] := va_S.rf
  have hl : lv_has ls 5 [(0, .ref (zh G)), (1, .int a1)] := hl
  unfold fm_greatestHard at hr
  refine lv_iconst (v := 0) hx hb dX3_greatestHard_0 (by decide) ?_
  refine lv_istore_n (lv' := [(2, .int (0 : Int32)), (0, .ref (zh G)), (1, .int a1)]) hx hb dX3_greatestHard_1 rfl hl (by decide) rfl (fun ls hl => ?_)
  refine lv_iconst (v := 0) hx hb dX3_greatestHard_2 (by decide) ?_
  refine lv_istore_n (lv' := [(3, .int (0 : Int32)), (2, .int (0 : Int32)), (0, .ref (zh G)), (1, .int a1)]) hx hb dX3_greatestHard_3 rfl hl (by decide) rfl (fun ls hl => ?_)
  obtain ⟨z3, e3, hr⟩ := ob hr
  refine m_join (I := fun (_ : Unit) H locs ls => mX G S H ∧ va_S (zA G) s.heap H locs ∧ lv_has ls 5 [(2, .int z3)]) 46 (fun _ => []) (fun _ H locs ls hi => ?_) (fun J1_46 => ?_)
  · obtain ⟨hX, hS, hl⟩ := hi
    refine lv_iload_n hx hb dX3_greatestHard_46 rfl (lv_at hl 0 rfl) ?_
    exact m_ri (C := C) hret hlk hX hS (Option.some.inj hr) dX3_greatestHard_47
  refine m_loop e3 (fun (t1 : Int32 × Int32) H locs ls => mX G S H ∧ va_S (zA G) s.heap H locs ∧ lv_has ls 5 [(0, .ref (zh G)), (1, .int a1), (2, .int t1.1), (3, .int t1.2)]) 4 ⟨hX, hS, lv_sub hl [2, 3, 1, 0] rfl⟩ (fun t1 y1 b1 w1 k1 H locs ls hi => ?_)
  obtain ⟨hX, hS, hl⟩ := hi
  unfold fm_greatestHard_l4 at b1
  refine lv_iload_n hx hb dX3_greatestHard_4 rfl (lv_at hl 3 rfl) ?_
  refine lv_aload_n hx hb dX3_greatestHard_5 rfl (lv_at hl 0 rfl) ?_
  refine m_ga (k := 10) (d := 0) C q1708 rfl (by decide) hX dX3_greatestHard_6 ?_
  refine lv_iload_n hx hb dX3_greatestHard_9 rfl (lv_at hl 1 rfl) ?_
  obtain ⟨x4, e4, b1⟩ := ob b1
  refine m_ia (k := 10) C rfl hX e4 dX3_greatestHard_10 ?_
  refine lv_icmp_ge (tgt := 46) hx hb dX3_greatestHard_11 (by decide) (fun c5 => ?_) (fun c5 => ?_)
  · replace b1 := it c5 b1
    replace b1 := lx b1 w1
    subst b1
    exact J1_46 () _ _ ls ⟨hX, hS, lv_sub hl [2] rfl⟩
  · replace b1 := ie c5 b1
    refine lv_aload_n hx hb dX3_greatestHard_14 rfl (lv_at hl 0 rfl) ?_
    refine m_ga (k := 7) (d := 0) C q1705 rfl (by decide) hX dX3_greatestHard_15 ?_
    refine lv_aload_n hx hb dX3_greatestHard_18 rfl (lv_at hl 0 rfl) ?_
    refine lv_iload_n hx hb dX3_greatestHard_19 rfl (lv_at hl 1 rfl) ?_
    refine lv_iload_n hx hb dX3_greatestHard_20 rfl (lv_at hl 3 rfl) ?_
    obtain ⟨x6, e6, b1⟩ := ob b1
    refine m_cvi (As := [.int a1, .int t1.2]) (rest := [.ref (zad G 7)]) C hX hS hl.1 (cm_stepAt l G hG S a1 t1.2 e6) (cwV 2 hts (lw_V q2011 q2013 qs54 q109 q2014) rfl rfl rfl (by decide +kernel) ⟨Nat.le_of_ble_eq_true rfl, Nat.le_of_ble_eq_true rfl⟩) rfl rfl (Nat.le_of_ble_eq_true rfl) dX3_greatestHard_21 (fun H locs hX hS => ?_)
    obtain ⟨x7, e7, b1⟩ := ob b1
    refine m_ia (k := 7) C rfl hX e7 dX3_greatestHard_24 ?_
    refine lv_istore (lv' := [(4, .int x7), (0, .ref (zh G)), (1, .int a1), (2, .int t1.1), (3, .int t1.2)]) hx hb dX3_greatestHard_25 hl (by decide) rfl (fun ls hl => ?_)
    refine lv_iload hx hb dX3_greatestHard_27 (lv_at hl 0 rfl) ?_
    refine lv_iload_n hx hb dX3_greatestHard_29 rfl (lv_at hl 3 rfl) ?_
    obtain ⟨x8, r8, b1⟩ := ob b1
    refine m_join (I := fun (t9 : Int32) H locs ls => x8 = t9 ∧ mX G S H ∧ va_S (zA G) s.heap H locs ∧ lv_has ls 5 [(0, .ref (zh G)), (1, .int a1), (3, .int t1.2)]) 39 (fun t9 => [.int t9]) (fun t9 H locs ls hi => ?_) (fun J8 => ?_)
    · obtain ⟨rfl, hX, hS, hl⟩ := hi
      refine lv_istore_n (lv' := [(2, .int x8), (0, .ref (zh G)), (1, .int a1), (3, .int t1.2)]) hx hb dX3_greatestHard_39 rfl hl (by decide) rfl (fun ls hl => ?_)
      refine lv_iinc (v := (t1.2 + (1 : Int32))) (k := 3) (lv' := [(3, .int (t1.2 + (1 : Int32))), (2, .int x8), (0, .ref (zh G)), (1, .int a1)]) hx hb dX3_greatestHard_40 hl rfl rfl (by decide) rfl (fun ls hl => ?_)
      refine lv_goto (tgt := 4) hx hb dX3_greatestHard_43 (by decide) ?_
      obtain ⟨g11, hg11⟩ : ∃ g, g = (t1.2 + (1 : Int32)) := ⟨_, rfl⟩
      rw [← hg11] at hl b1
      exact k1 _ (Option.some.inj b1).symm _ _ ls ⟨hX, hS, lv_sub hl [2, 3, 1, 0] rfl⟩
    · refine lv_icmp_le (tgt := 38) hx hb dX3_greatestHard_30 (by decide) (fun c10 => ?_) (fun c10 => ?_)
      · replace r8 := it c10 r8
        refine lv_iload_n hx hb dX3_greatestHard_38 rfl (lv_at hl 3 rfl) ?_
        exact J8 _ _ _ ls ⟨(Option.some.inj r8).symm, hX, hS, lv_sub hl [1, 2, 4] rfl⟩
      · replace r8 := ie c10 r8
        refine lv_iload hx hb dX3_greatestHard_33 (lv_at hl 0 rfl) ?_
        refine lv_goto (tgt := 39) hx hb dX3_greatestHard_35 (by decide) ?_
        exact J8 _ _ _ ls ⟨(Option.some.inj r8).symm, hX, hS, lv_sub hl [1, 2, 4] rfl⟩

def fm_sumHard_l4 (S : mS) (a1 : Int32) (t1 : Int32 × Int32) : Option ((Int32 × Int32) ⊕ (Int32)) :=
  (aI S 10 a1).bind fun x4 =>
  (if x4 ≤ t1.2 then
  some (.inr t1.1)
  else
  (fm_stepAt S a1 t1.2).bind fun x6 =>
  (aI S 7 x6).bind fun x7 =>
  some (.inl ((t1.1 + x7), (t1.2 + (1 : Int32)))))
def fm_sumHard (S : mS) (a1 : Int32) : Option Int32 :=
  (loopO (fm_sumHard_l4 S a1) 1000000 ((0 : Int32), (0 : Int32))).bind (fun z3 =>
  some z3)
set_option maxHeartbeats 4000000 in
set_option maxRecDepth 100000 in
theorem cm_sumHard (l : Launch) (G : mGh) (hG : mOk G) (S : mS) (a1 : Int32) {r : Int32} (hr : fm_sumHard S a1 = some r) : Met l yX3_sumHard (ws_ yX3_sumHard cX3_sumHard 4 (some .int)) ({ frames := 1, cells := 0, slots := 0, locals := 22 } : Room) (mPc G [.int a1] S) (mQi G r S) 0 0 (zA G) := by
  refine m_met cX3_sumHard (by decide) rfl hG (Nat.le_of_ble_eq_true rfl) (fun p e s m args below meth c C hret hlk ls hX hl => ?_)
  have hx := C.1.1
  have hb := C.1.2.1
  have hown := C.1.2.2.2.1
  have hts := C.1.2.2.2.2
  have hS : va_S (zA G) s.heap s.heap [] := va_S.rf
  have hl : lv_has ls 4 [(0, .ref (zh G)), (1, .int a1)] := hl
  unfold fm_sumHard at hr
  refine lv_iconst (v := 0) hx hb dX3_sumHard_0 (by decide) ?_
  refine lv_istore_n (lv' := [(2, .int (0 : Int32)), (0, .ref (zh G)), (1, .int a1)]) hx hb dX3_sumHard_1 rfl hl (by decide) rfl (fun ls hl => ?_)
  refine lv_iconst (v := 0) hx hb dX3_sumHard_2 (by decide) ?_
  refine lv_istore_n (lv' := [(3, .int (0 : Int32)), (2, .int (0 : Int32)), (0, .ref (zh G)), (1, .int a1)]) hx hb dX3_sumHard_3 rfl hl (by decide) rfl (fun ls hl => ?_)
  obtain ⟨z3, e3, hr⟩ := ob hr
  refine m_join (I := fun (_ : Unit) H locs ls => mX G S H ∧ va_S (zA G) s.heap H locs ∧ lv_has ls 4 [(2, .int z3)]) 34 (fun _ => []) (fun _ H locs ls hi => ?_) (fun J1_34 => ?_)
  · obtain ⟨hX, hS, hl⟩ := hi
    refine lv_iload_n hx hb dX3_sumHard_34 rfl (lv_at hl 0 rfl) ?_
    exact m_ri (C := C) hret hlk hX hS (Option.some.inj hr) dX3_sumHard_35
  refine m_loop e3 (fun (t1 : Int32 × Int32) H locs ls => mX G S H ∧ va_S (zA G) s.heap H locs ∧ lv_has ls 4 [(0, .ref (zh G)), (1, .int a1), (2, .int t1.1), (3, .int t1.2)]) 4 ⟨hX, hS, lv_sub hl [2, 3, 1, 0] rfl⟩ (fun t1 y1 b1 w1 k1 H locs ls hi => ?_)
  obtain ⟨hX, hS, hl⟩ := hi
  unfold fm_sumHard_l4 at b1
  refine lv_iload_n hx hb dX3_sumHard_4 rfl (lv_at hl 3 rfl) ?_
  refine lv_aload_n hx hb dX3_sumHard_5 rfl (lv_at hl 0 rfl) ?_
  refine m_ga (k := 10) (d := 0) C q1708 rfl (by decide) hX dX3_sumHard_6 ?_
  refine lv_iload_n hx hb dX3_sumHard_9 rfl (lv_at hl 1 rfl) ?_
  obtain ⟨x4, e4, b1⟩ := ob b1
  refine m_ia (k := 10) C rfl hX e4 dX3_sumHard_10 ?_
  refine lv_icmp_ge (tgt := 34) hx hb dX3_sumHard_11 (by decide) (fun c5 => ?_) (fun c5 => ?_)
  · replace b1 := it c5 b1
    replace b1 := lx b1 w1
    subst b1
    exact J1_34 () _ _ ls ⟨hX, hS, lv_sub hl [2] rfl⟩
  · replace b1 := ie c5 b1
    refine lv_iload_n hx hb dX3_sumHard_14 rfl (lv_at hl 2 rfl) ?_
    refine lv_aload_n hx hb dX3_sumHard_15 rfl (lv_at hl 0 rfl) ?_
    refine m_ga (k := 7) (d := 0) C q1705 rfl (by decide) hX dX3_sumHard_16 ?_
    refine lv_aload_n hx hb dX3_sumHard_19 rfl (lv_at hl 0 rfl) ?_
    refine lv_iload_n hx hb dX3_sumHard_20 rfl (lv_at hl 1 rfl) ?_
    refine lv_iload_n hx hb dX3_sumHard_21 rfl (lv_at hl 3 rfl) ?_
    obtain ⟨x6, e6, b1⟩ := ob b1
    refine m_cvi (As := [.int a1, .int t1.2]) (rest := [.ref (zad G 7), .int t1.1]) C hX hS hl.1 (cm_stepAt l G hG S a1 t1.2 e6) (cwV 2 hts (lw_V q2011 q2013 qs54 q109 q2014) rfl rfl rfl (by decide +kernel) ⟨Nat.le_of_ble_eq_true rfl, Nat.le_of_ble_eq_true rfl⟩) rfl rfl (Nat.le_of_ble_eq_true rfl) dX3_sumHard_22 (fun H locs hX hS => ?_)
    obtain ⟨x7, e7, b1⟩ := ob b1
    refine m_ia (k := 7) C rfl hX e7 dX3_sumHard_25 ?_
    refine lv_iadd hx hb dX3_sumHard_26 ?_
    refine lv_istore_n (lv' := [(2, .int (t1.1 + x7)), (0, .ref (zh G)), (1, .int a1), (3, .int t1.2)]) hx hb dX3_sumHard_27 rfl hl (by decide) rfl (fun ls hl => ?_)
    refine lv_iinc (v := (t1.2 + (1 : Int32))) (k := 3) (lv' := [(3, .int (t1.2 + (1 : Int32))), (2, .int (t1.1 + x7)), (0, .ref (zh G)), (1, .int a1)]) hx hb dX3_sumHard_28 hl rfl rfl (by decide) rfl (fun ls hl => ?_)
    refine lv_goto (tgt := 4) hx hb dX3_sumHard_31 (by decide) ?_
    obtain ⟨g8, hg8⟩ : ∃ g, g = (t1.1 + x7) := ⟨_, rfl⟩
    rw [← hg8] at hl b1
    obtain ⟨g9, hg9⟩ : ∃ g, g = (t1.2 + (1 : Int32)) := ⟨_, rfl⟩
    rw [← hg9] at hl b1
    exact k1 _ (Option.some.inj b1).symm _ _ ls ⟨hX, hS, lv_sub hl [2, 3, 1, 0] rfl⟩

def fm_sumLength_l4 (S : mS) (a1 : Int32) (t1 : Int32 × Int32) : Option ((Int32 × Int32) ⊕ (Int32)) :=
  (aI S 10 a1).bind fun x4 =>
  (if x4 ≤ t1.2 then
  some (.inr t1.1)
  else
  (fm_stepAt S a1 t1.2).bind fun x6 =>
  (aI S 6 x6).bind fun x7 =>
  some (.inl ((t1.1 + x7), (t1.2 + (1 : Int32)))))
def fm_sumLength (S : mS) (a1 : Int32) : Option Int32 :=
  (loopO (fm_sumLength_l4 S a1) 1000000 ((0 : Int32), (0 : Int32))).bind (fun z3 =>
  some z3)
set_option maxHeartbeats 4000000 in
set_option maxRecDepth 100000 in
theorem cm_sumLength (l : Launch) (G : mGh) (hG : mOk G) (S : mS) (a1 : Int32) {r : Int32} (hr : fm_sumLength S a1 = some r) : Met l yX3_sumLength (ws_ yX3_sumLength cX3_sumLength 4 (some .int)) ({ frames := 1, cells := 0, slots := 0, locals := 22 } : Room) (mPc G [.int a1] S) (mQi G r S) 0 0 (zA G) := by
  refine m_met cX3_sumLength (by decide) rfl hG (Nat.le_of_ble_eq_true rfl) (fun p e s m args below meth c C hret hlk ls hX hl => ?_)
  have hx := C.1.1
  have hb := C.1.2.1
  have hown := C.1.2.2.2.1
  have hts := C.1.2.2.2.2
  have hS : va_S (zA G) s.heap s.heap [] := va_S.rf
  have hl : lv_has ls 4 [(0, .ref (zh G)), (1, .int a1)] := hl
  unfold fm_sumLength at hr
  refine lv_iconst (v := 0) hx hb dX3_sumLength_0 (by decide) ?_
  refine lv_istore_n (lv' := [(2, .int (0 : Int32)), (0, .ref (zh G)), (1, .int a1)]) hx hb dX3_sumLength_1 rfl hl (by decide) rfl (fun ls hl => ?_)
  refine lv_iconst (v := 0) hx hb dX3_sumLength_2 (by decide) ?_
  refine lv_istore_n (lv' := [(3, .int (0 : Int32)), (2, .int (0 : Int32)), (0, .ref (zh G)), (1, .int a1)]) hx hb dX3_sumLength_3 rfl hl (by decide) rfl (fun ls hl => ?_)
  obtain ⟨z3, e3, hr⟩ := ob hr
  refine m_join (I := fun (_ : Unit) H locs ls => mX G S H ∧ va_S (zA G) s.heap H locs ∧ lv_has ls 4 [(2, .int z3)]) 34 (fun _ => []) (fun _ H locs ls hi => ?_) (fun J1_34 => ?_)
  · obtain ⟨hX, hS, hl⟩ := hi
    refine lv_iload_n hx hb dX3_sumLength_34 rfl (lv_at hl 0 rfl) ?_
    exact m_ri (C := C) hret hlk hX hS (Option.some.inj hr) dX3_sumLength_35
  refine m_loop e3 (fun (t1 : Int32 × Int32) H locs ls => mX G S H ∧ va_S (zA G) s.heap H locs ∧ lv_has ls 4 [(0, .ref (zh G)), (1, .int a1), (2, .int t1.1), (3, .int t1.2)]) 4 ⟨hX, hS, lv_sub hl [2, 3, 1, 0] rfl⟩ (fun t1 y1 b1 w1 k1 H locs ls hi => ?_)
  obtain ⟨hX, hS, hl⟩ := hi
  unfold fm_sumLength_l4 at b1
  refine lv_iload_n hx hb dX3_sumLength_4 rfl (lv_at hl 3 rfl) ?_
  refine lv_aload_n hx hb dX3_sumLength_5 rfl (lv_at hl 0 rfl) ?_
  refine m_ga (k := 10) (d := 0) C q1708 rfl (by decide) hX dX3_sumLength_6 ?_
  refine lv_iload_n hx hb dX3_sumLength_9 rfl (lv_at hl 1 rfl) ?_
  obtain ⟨x4, e4, b1⟩ := ob b1
  refine m_ia (k := 10) C rfl hX e4 dX3_sumLength_10 ?_
  refine lv_icmp_ge (tgt := 34) hx hb dX3_sumLength_11 (by decide) (fun c5 => ?_) (fun c5 => ?_)
  · replace b1 := it c5 b1
    replace b1 := lx b1 w1
    subst b1
    exact J1_34 () _ _ ls ⟨hX, hS, lv_sub hl [2] rfl⟩
  · replace b1 := ie c5 b1
    refine lv_iload_n hx hb dX3_sumLength_14 rfl (lv_at hl 2 rfl) ?_
    refine lv_aload_n hx hb dX3_sumLength_15 rfl (lv_at hl 0 rfl) ?_
    refine m_ga (k := 6) (d := 0) C q1704 rfl (by decide) hX dX3_sumLength_16 ?_
    refine lv_aload_n hx hb dX3_sumLength_19 rfl (lv_at hl 0 rfl) ?_
    refine lv_iload_n hx hb dX3_sumLength_20 rfl (lv_at hl 1 rfl) ?_
    refine lv_iload_n hx hb dX3_sumLength_21 rfl (lv_at hl 3 rfl) ?_
    obtain ⟨x6, e6, b1⟩ := ob b1
    refine m_cvi (As := [.int a1, .int t1.2]) (rest := [.ref (zad G 6), .int t1.1]) C hX hS hl.1 (cm_stepAt l G hG S a1 t1.2 e6) (cwV 2 hts (lw_V q2011 q2013 qs54 q109 q2014) rfl rfl rfl (by decide +kernel) ⟨Nat.le_of_ble_eq_true rfl, Nat.le_of_ble_eq_true rfl⟩) rfl rfl (Nat.le_of_ble_eq_true rfl) dX3_sumLength_22 (fun H locs hX hS => ?_)
    obtain ⟨x7, e7, b1⟩ := ob b1
    refine m_ia (k := 6) C rfl hX e7 dX3_sumLength_25 ?_
    refine lv_iadd hx hb dX3_sumLength_26 ?_
    refine lv_istore_n (lv' := [(2, .int (t1.1 + x7)), (0, .ref (zh G)), (1, .int a1), (3, .int t1.2)]) hx hb dX3_sumLength_27 rfl hl (by decide) rfl (fun ls hl => ?_)
    refine lv_iinc (v := (t1.2 + (1 : Int32))) (k := 3) (lv' := [(3, .int (t1.2 + (1 : Int32))), (2, .int (t1.1 + x7)), (0, .ref (zh G)), (1, .int a1)]) hx hb dX3_sumLength_28 hl rfl rfl (by decide) rfl (fun ls hl => ?_)
    refine lv_goto (tgt := 4) hx hb dX3_sumLength_31 (by decide) ?_
    obtain ⟨g8, hg8⟩ : ∃ g, g = (t1.1 + x7) := ⟨_, rfl⟩
    rw [← hg8] at hl b1
    obtain ⟨g9, hg9⟩ : ∃ g, g = (t1.2 + (1 : Int32)) := ⟨_, rfl⟩
    rw [← hg9] at hl b1
    exact k1 _ (Option.some.inj b1).symm _ _ ls ⟨hX, hS, lv_sub hl [2, 3, 1, 0] rfl⟩

def fm_routeOf_k43 (S : mS) (a1 : Int32) (a2 : Int32) (t3 : Unit) : Option (Int32) :=
  if a2 = (0 : Int32) then
  (aI S 10 a1).bind fun x8 =>
  some x8
  else if a2 = (1 : Int32) then
  (fm_stepAt S a1 (0 : Int32)).bind fun x10 =>
  (aI S 3 x10).bind fun x11 =>
  some x11
  else if a2 = (2 : Int32) then
  (fm_endOf S a1).bind fun x13 =>
  some x13
  else if a2 = (3 : Int32) then
  (fm_greatestHard S a1).bind fun x15 =>
  some x15
  else if a2 = (4 : Int32) then
  (fm_sumHard S a1).bind fun x17 =>
  some x17
  else if a2 = (5 : Int32) then
  (fm_sumLength S a1).bind fun x19 =>
  some x19
  else 
  (fm_stepAt S a1 (a2 - (10 : Int32))).bind fun x20 =>
  some x20
def fm_routeOf (S : mS) (a1 : Int32) (a2 : Int32) : Option Int32 :=
  (if (fm_isRoute S a1) = 0 then
  some (-1 : Int32)
  else
  (((if (fm_in a2.toInt64 (0 : Int64) (5 : Int64)) = 0 then
  (aI S 10 a1).bind fun x5 =>
  (if (fm_in a2.toInt64 (10 : Int64) (((9 : Int32) + x5).toInt64)) = 0 then
  some (.inr (some (-1 : Int32)))
  else
  some (.inl ()))
  else
  some (.inl ())) : Option ((Unit) ⊕ Option (Int32)))).bind (sumK (fun t3 => fm_routeOf_k43 S a1 a2 t3) (fun z => z)))
set_option maxHeartbeats 4000000 in
set_option maxRecDepth 100000 in
theorem cm_routeOf (l : Launch) (G : mGh) (hG : mOk G) (S : mS) (a1 : Int32) (a2 : Int32) {r : Int32} (hr : fm_routeOf S a1 a2 = some r) : Met l yX3_routeOf (ws_ yX3_routeOf cX3_routeOf 3 (some .int)) ({ frames := 2, cells := 0, slots := 0, locals := 46 } : Room) (mPc G [.int a1, .int a2] S) (mQi G r S) 0 0 (zA G) := by
  refine m_met cX3_routeOf (by decide) rfl hG (Nat.le_of_ble_eq_true rfl) (fun p e s m args below meth c C hret hlk ls hX hl => ?_)
  have hx := C.1.1
  have hb := C.1.2.1
  have hown := C.1.2.2.2.1
  have hts := C.1.2.2.2.2
  have hS : va_S (zA G) s.heap s.heap [] := va_S.rf
  have hl : lv_has ls 3 [(0, .ref (zh G)), (1, .int a1), (2, .int a2)] := hl
  unfold fm_routeOf at hr
  refine lv_aload_n hx hb dX3_routeOf_0 rfl (lv_at hl 0 rfl) ?_
  refine lv_iload_n hx hb dX3_routeOf_1 rfl (lv_at hl 1 rfl) ?_
  refine m_cvi (As := [.int a1]) (rest := []) C hX hS hl.1 (cm_isRoute l G hG S a1 rfl) (cwV 1 hts (lw_V q2003 q2005 qs52 q109 q2006) rfl rfl rfl (by decide +kernel) ⟨Nat.le_of_ble_eq_true rfl, Nat.le_of_ble_eq_true rfl⟩) rfl rfl (Nat.le_of_ble_eq_true rfl) dX3_routeOf_2 (fun H locs hX hS => ?_)
  refine lv_if_eq (tgt := 41) hx hb dX3_routeOf_5 (by decide) (fun c1 => ?_) (fun c1 => ?_)
  · replace hr := it c1 hr
    refine lv_iconst (v := -1) hx hb dX3_routeOf_41 (by decide) ?_
    exact m_ri (C := C) hret hlk hX hS (Option.some.inj hr) dX3_routeOf_42
  · replace hr := ie c1 hr
    refine lv_iload_n hx hb dX3_routeOf_8 rfl (lv_at hl 2 rfl) ?_
    refine lv_i2l (v := a2.toInt64) hx hb dX3_routeOf_9 rfl ?_
    refine lv_lconst (v := 0) hx hb dX3_routeOf_10 (by decide) ?_
    refine lv_ldc2 hx hb hown (hts _ q1986) dX3_routeOf_11 ?_
    refine m_csi (As := [.long a2.toInt64, .long (0 : Int64), .long (5 : Int64)]) (rest := []) C hX hS hl.1 (cm_in l a2.toInt64 (0 : Int64) (5 : Int64) rfl) (va_cwS 3 hts (lw_S q1974 q1975 q109 q1976) rfl rfl rfl (by decide +kernel) ⟨Nat.le_of_ble_eq_true rfl, Nat.le_of_ble_eq_true rfl⟩) rfl rfl (Nat.le_of_ble_eq_true rfl) dX3_routeOf_14 (fun H locs hX hS => ?_)
    obtain ⟨x2, r2, hr⟩ := ob hr
    refine m_join (I := fun (t3 : Unit) H locs ls => x2 = .inl t3 ∧ mX G S H ∧ va_S (zA G) s.heap H locs ∧ lv_has ls 3 [(0, .ref (zh G)), (1, .int a1), (2, .int a2)]) 43 (fun t3 => []) (fun t3 H locs ls hi => ?_) (fun J2 => ?_)
    · obtain ⟨rfl, hX, hS, hl⟩ := hi
      replace hr := sk_l hr
      unfold fm_routeOf_k43 at hr
      refine lv_iload_n hx hb dX3_routeOf_43 rfl (lv_at hl 2 rfl) ?_
      by_cases c7 : a2 = (0 : Int32)
      · replace hr := it c7 hr
        refine lv_tableIn (off := 40) (tgt := 84) hx hb dX3_routeOf_44 (by rw [c7]; decide) (by rw [c7]; decide) (by rw [c7]; rfl) (by decide) ?_
        refine lv_aload_n hx hb dX3_routeOf_84 rfl (lv_at hl 0 rfl) ?_
        refine m_ga (k := 10) (d := 0) C q1708 rfl (by decide) hX dX3_routeOf_85 ?_
        refine lv_iload_n hx hb dX3_routeOf_88 rfl (lv_at hl 1 rfl) ?_
        obtain ⟨x8, e8, hr⟩ := ob hr
        refine m_ia (k := 10) C rfl hX e8 dX3_routeOf_89 ?_
        exact m_ri (C := C) hret hlk hX hS (Option.some.inj hr) dX3_routeOf_90
      replace hr := ie c7 hr
      by_cases c9 : a2 = (1 : Int32)
      · replace hr := it c9 hr
        refine lv_tableIn (off := 47) (tgt := 91) hx hb dX3_routeOf_44 (by rw [c9]; decide) (by rw [c9]; decide) (by rw [c9]; rfl) (by decide) ?_
        refine lv_aload_n hx hb dX3_routeOf_91 rfl (lv_at hl 0 rfl) ?_
        refine m_ga (k := 3) (d := 0) C q1701 rfl (by decide) hX dX3_routeOf_92 ?_
        refine lv_aload_n hx hb dX3_routeOf_95 rfl (lv_at hl 0 rfl) ?_
        refine lv_iload_n hx hb dX3_routeOf_96 rfl (lv_at hl 1 rfl) ?_
        refine lv_iconst (v := 0) hx hb dX3_routeOf_97 (by decide) ?_
        obtain ⟨x10, e10, hr⟩ := ob hr
        refine m_cvi (As := [.int a1, .int (0 : Int32)]) (rest := [.ref (zad G 3)]) C hX hS hl.1 (cm_stepAt l G hG S a1 (0 : Int32) e10) (cwV 2 hts (lw_V q2011 q2013 qs54 q109 q2014) rfl rfl rfl (by decide +kernel) ⟨Nat.le_of_ble_eq_true rfl, Nat.le_of_ble_eq_true rfl⟩) rfl rfl (Nat.le_of_ble_eq_true rfl) dX3_routeOf_98 (fun H locs hX hS => ?_)
        obtain ⟨x11, e11, hr⟩ := ob hr
        refine m_ia (k := 3) C rfl hX e11 dX3_routeOf_101 ?_
        exact m_ri (C := C) hret hlk hX hS (Option.some.inj hr) dX3_routeOf_102
      replace hr := ie c9 hr
      by_cases c12 : a2 = (2 : Int32)
      · replace hr := it c12 hr
        refine lv_tableIn (off := 59) (tgt := 103) hx hb dX3_routeOf_44 (by rw [c12]; decide) (by rw [c12]; decide) (by rw [c12]; rfl) (by decide) ?_
        refine lv_aload_n hx hb dX3_routeOf_103 rfl (lv_at hl 0 rfl) ?_
        refine lv_iload_n hx hb dX3_routeOf_104 rfl (lv_at hl 1 rfl) ?_
        obtain ⟨x13, e13, hr⟩ := ob hr
        refine m_cvi (As := [.int a1]) (rest := []) C hX hS hl.1 (cm_endOf l G hG S a1 e13) (cwV 1 hts (lw_V q2007 q2009 qs53 q109 q2010) rfl rfl rfl (by decide +kernel) ⟨Nat.le_of_ble_eq_true rfl, Nat.le_of_ble_eq_true rfl⟩) rfl rfl (Nat.le_of_ble_eq_true rfl) dX3_routeOf_105 (fun H locs hX hS => ?_)
        exact m_ri (C := C) hret hlk hX hS (Option.some.inj hr) dX3_routeOf_108
      replace hr := ie c12 hr
      by_cases c14 : a2 = (3 : Int32)
      · replace hr := it c14 hr
        refine lv_tableIn (off := 65) (tgt := 109) hx hb dX3_routeOf_44 (by rw [c14]; decide) (by rw [c14]; decide) (by rw [c14]; rfl) (by decide) ?_
        refine lv_aload_n hx hb dX3_routeOf_109 rfl (lv_at hl 0 rfl) ?_
        refine lv_iload_n hx hb dX3_routeOf_110 rfl (lv_at hl 1 rfl) ?_
        obtain ⟨x15, e15, hr⟩ := ob hr
        refine m_cvi (As := [.int a1]) (rest := []) C hX hS hl.1 (cm_greatestHard l G hG S a1 e15) (cwV 1 hts (lw_V q2020 q2022 qs55 q109 q2023) rfl rfl rfl (by decide +kernel) ⟨Nat.le_of_ble_eq_true rfl, Nat.le_of_ble_eq_true rfl⟩) rfl rfl (Nat.le_of_ble_eq_true rfl) dX3_routeOf_111 (fun H locs hX hS => ?_)
        exact m_ri (C := C) hret hlk hX hS (Option.some.inj hr) dX3_routeOf_114
      replace hr := ie c14 hr
      by_cases c16 : a2 = (4 : Int32)
      · replace hr := it c16 hr
        refine lv_tableIn (off := 71) (tgt := 115) hx hb dX3_routeOf_44 (by rw [c16]; decide) (by rw [c16]; decide) (by rw [c16]; rfl) (by decide) ?_
        refine lv_aload_n hx hb dX3_routeOf_115 rfl (lv_at hl 0 rfl) ?_
        refine lv_iload_n hx hb dX3_routeOf_116 rfl (lv_at hl 1 rfl) ?_
        obtain ⟨x17, e17, hr⟩ := ob hr
        refine m_cvi (As := [.int a1]) (rest := []) C hX hS hl.1 (cm_sumHard l G hG S a1 e17) (cwV 1 hts (lw_V q2024 q2026 qs56 q109 q2027) rfl rfl rfl (by decide +kernel) ⟨Nat.le_of_ble_eq_true rfl, Nat.le_of_ble_eq_true rfl⟩) rfl rfl (Nat.le_of_ble_eq_true rfl) dX3_routeOf_117 (fun H locs hX hS => ?_)
        exact m_ri (C := C) hret hlk hX hS (Option.some.inj hr) dX3_routeOf_120
      replace hr := ie c16 hr
      by_cases c18 : a2 = (5 : Int32)
      · replace hr := it c18 hr
        refine lv_tableIn (off := 77) (tgt := 121) hx hb dX3_routeOf_44 (by rw [c18]; decide) (by rw [c18]; decide) (by rw [c18]; rfl) (by decide) ?_
        refine lv_aload_n hx hb dX3_routeOf_121 rfl (lv_at hl 0 rfl) ?_
        refine lv_iload_n hx hb dX3_routeOf_122 rfl (lv_at hl 1 rfl) ?_
        obtain ⟨x19, e19, hr⟩ := ob hr
        refine m_cvi (As := [.int a1]) (rest := []) C hX hS hl.1 (cm_sumLength l G hG S a1 e19) (cwV 1 hts (lw_V q2028 q2030 qs57 q109 q2031) rfl rfl rfl (by decide +kernel) ⟨Nat.le_of_ble_eq_true rfl, Nat.le_of_ble_eq_true rfl⟩) rfl rfl (Nat.le_of_ble_eq_true rfl) dX3_routeOf_123 (fun H locs hX hS => ?_)
        exact m_ri (C := C) hret hlk hX hS (Option.some.inj hr) dX3_routeOf_126
      replace hr := ie c18 hr
      refine lv_tableOut (tgt := 127) hx hb dX3_routeOf_44 (tb_out (fun k h1 h2 => ?_)) (by decide) ?_
      · have h3 : k = 0 ∨ k = 1 ∨ k = 2 ∨ k = 3 ∨ k = 4 ∨ k = 5 := by omega
        rcases h3 with rfl | rfl | rfl | rfl | rfl | rfl
        · exact c7
        · exact c9
        · exact c12
        · exact c14
        · exact c16
        · exact c18
      · refine lv_aload_n hx hb dX3_routeOf_127 rfl (lv_at hl 0 rfl) ?_
        refine lv_iload_n hx hb dX3_routeOf_128 rfl (lv_at hl 1 rfl) ?_
        refine lv_iload_n hx hb dX3_routeOf_129 rfl (lv_at hl 2 rfl) ?_
        refine lv_bipush (v := 10) hx hb dX3_routeOf_130 (by decide) ?_
        refine lv_isub hx hb dX3_routeOf_132 ?_
        obtain ⟨x20, e20, hr⟩ := ob hr
        refine m_cvi (As := [.int a1, .int (a2 - (10 : Int32))]) (rest := []) C hX hS hl.1 (cm_stepAt l G hG S a1 (a2 - (10 : Int32)) e20) (cwV 2 hts (lw_V q2011 q2013 qs54 q109 q2014) rfl rfl rfl (by decide +kernel) ⟨Nat.le_of_ble_eq_true rfl, Nat.le_of_ble_eq_true rfl⟩) rfl rfl (Nat.le_of_ble_eq_true rfl) dX3_routeOf_133 (fun H locs hX hS => ?_)
        exact m_ri (C := C) hret hlk hX hS (Option.some.inj hr) dX3_routeOf_136
    · refine lv_if_ne (tgt := 43) hx hb dX3_routeOf_17 (by decide) (fun c4 => ?_) (fun c4 => ?_)
      · replace r2 := ie c4 r2
        exact J2 _ _ _ ls ⟨(Option.some.inj r2).symm, hX, hS, hl⟩
      · replace r2 := it c4 r2
        refine lv_iload_n hx hb dX3_routeOf_20 rfl (lv_at hl 2 rfl) ?_
        refine lv_i2l (v := a2.toInt64) hx hb dX3_routeOf_21 rfl ?_
        refine lv_ldc2 hx hb hown (hts _ q2019) dX3_routeOf_22 ?_
        refine lv_bipush (v := 9) hx hb dX3_routeOf_25 (by decide) ?_
        refine lv_aload_n hx hb dX3_routeOf_27 rfl (lv_at hl 0 rfl) ?_
        refine m_ga (k := 10) (d := 0) C q1708 rfl (by decide) hX dX3_routeOf_28 ?_
        refine lv_iload_n hx hb dX3_routeOf_31 rfl (lv_at hl 1 rfl) ?_
        obtain ⟨x5, e5, r2⟩ := ob r2
        refine m_ia (k := 10) C rfl hX e5 dX3_routeOf_32 ?_
        refine lv_iadd hx hb dX3_routeOf_33 ?_
        refine lv_i2l (v := ((9 : Int32) + x5).toInt64) hx hb dX3_routeOf_34 rfl ?_
        refine m_csi (As := [.long a2.toInt64, .long (10 : Int64), .long (((9 : Int32) + x5).toInt64)]) (rest := []) C hX hS hl.1 (cm_in l a2.toInt64 (10 : Int64) (((9 : Int32) + x5).toInt64) rfl) (va_cwS 3 hts (lw_S q1974 q1975 q109 q1976) rfl rfl rfl (by decide +kernel) ⟨Nat.le_of_ble_eq_true rfl, Nat.le_of_ble_eq_true rfl⟩) rfl rfl (Nat.le_of_ble_eq_true rfl) dX3_routeOf_35 (fun H locs hX hS => ?_)
        refine lv_if_ne (tgt := 43) hx hb dX3_routeOf_38 (by decide) (fun c6 => ?_) (fun c6 => ?_)
        · replace r2 := ie c6 r2
          exact J2 _ _ _ ls ⟨(Option.some.inj r2).symm, hX, hS, hl⟩
        · replace r2 := it c6 r2
          refine lv_iconst (v := -1) hx hb dX3_routeOf_41 (by decide) ?_
          replace r2 := Option.some.inj r2
          subst r2
          replace hr := sk_r hr
          exact m_ri (C := C) hret hlk hX hS (Option.some.inj hr) dX3_routeOf_42
