/-! M's methods, printed by tool/genm.py -/
def fm_sheet_l56 (a1 : Int32) (t7 : mS × Int32) : Option ((mS × Int32) ⊕ (mS)) :=
  (if (24 : Int32) ≤ t7.2 then
  some (.inr t7.1)
  else
  (tI t7.1 14 (((24 : Int32) * a1) + t7.2) (0 : Int32)).bind fun x11 =>
  some (.inl (x11, (t7.2 + (1 : Int32)))))
def fm_sheet (S : mS) (a1 : Int32) (a2 : Int32) (a3 : Int32) : Option (mS × Int32) :=
  (if (fm_in a1.toInt64 (0 : Int64) (3 : Int64)) = 0 then
  some (S, (-1 : Int32))
  else
  (if (fm_in a2.toInt64 (0 : Int64) (2 : Int64)) = 0 then
  some (S, (-1 : Int32))
  else
  (if a3 ≤ (24 : Int32) then
  (if 0 ≤ a3 then
  (tI S 12 a1 a2).bind fun x5 =>
  (tI x5 13 a1 a3).bind fun x6 =>
  (loopO (fm_sheet_l56 a1) 1000000 (x6, (0 : Int32))).bind (fun z9 =>
  some (z9, (1 : Int32)))
  else
  some (S, (-14 : Int32)))
  else
  some (S, (-1 : Int32)))))
set_option maxHeartbeats 4000000 in
set_option maxRecDepth 100000 in
theorem cm_sheet (l : Launch) (G : mGh) (hG : mOk G) (S : mS) (a1 : Int32) (a2 : Int32) (a3 : Int32) {S' : mS} {r : Int32} (hr : fm_sheet S a1 a2 a3 = some (S', r)) : Met l yX3_sheet (ws_ yX3_sheet cX3_sheet 5 (some .int)) ({ frames := 1, cells := 0, slots := 0, locals := 25 } : Room) (mPc G [.int a1, .int a2, .int a3] S) (mQi G r S') 0 0 (zA G) := by
  refine m_met cX3_sheet (by decide) rfl hG (Nat.le_of_ble_eq_true rfl) (fun p e s m args below meth c C hret hlk ls hX hl => ?_)
  have hx := C.1.1
  have hb := C.1.2.1
  have hown := C.1.2.2.2.1
  have hts := C.1.2.2.2.2
  have hS : va_S (zA G) s.heap s.heap [] := va_S.rf
  have hl : lv_has ls 5 [(0, .ref (zh G)), (1, .int a1), (2, .int a2), (3, .int a3)] := hl
  unfold fm_sheet at hr
  refine lv_iload_n hx hb dX3_sheet_0 rfl (lv_at hl 1 rfl) ?_
  refine lv_i2l (v := a1.toInt64) hx hb dX3_sheet_1 rfl ?_
  refine lv_lconst (v := 0) hx hb dX3_sheet_2 (by decide) ?_
  refine lv_ldc2 hx hb hown (hts _ q2036) dX3_sheet_3 ?_
  refine m_csi (As := [.long a1.toInt64, .long (0 : Int64), .long (3 : Int64)]) (rest := []) C hX hS hl.1 (cm_in l a1.toInt64 (0 : Int64) (3 : Int64) rfl) (va_cwS 3 hts (lw_S q1974 q1975 q109 q1976) rfl rfl rfl (by decide +kernel) ⟨Nat.le_of_ble_eq_true rfl, Nat.le_of_ble_eq_true rfl⟩) rfl rfl (Nat.le_of_ble_eq_true rfl) dX3_sheet_6 (fun H locs hX hS => ?_)
  refine lv_if_eq (tgt := 30) hx hb dX3_sheet_9 (by decide) (fun c1 => ?_) (fun c1 => ?_)
  · replace hr := it c1 hr
    refine lv_iconst (v := -1) hx hb dX3_sheet_30 (by decide) ?_
    exact m_riw (C := C) hret hlk hX hS (Option.some.inj hr) dX3_sheet_31
  · replace hr := ie c1 hr
    refine lv_iload_n hx hb dX3_sheet_12 rfl (lv_at hl 2 rfl) ?_
    refine lv_i2l (v := a2.toInt64) hx hb dX3_sheet_13 rfl ?_
    refine lv_lconst (v := 0) hx hb dX3_sheet_14 (by decide) ?_
    refine lv_ldc2 hx hb hown (hts _ q2037) dX3_sheet_15 ?_
    refine m_csi (As := [.long a2.toInt64, .long (0 : Int64), .long (2 : Int64)]) (rest := []) C hX hS hl.1 (cm_in l a2.toInt64 (0 : Int64) (2 : Int64) rfl) (va_cwS 3 hts (lw_S q1974 q1975 q109 q1976) rfl rfl rfl (by decide +kernel) ⟨Nat.le_of_ble_eq_true rfl, Nat.le_of_ble_eq_true rfl⟩) rfl rfl (Nat.le_of_ble_eq_true rfl) dX3_sheet_18 (fun H locs hX hS => ?_)
    refine lv_if_eq (tgt := 30) hx hb dX3_sheet_21 (by decide) (fun c2 => ?_) (fun c2 => ?_)
    · replace hr := it c2 hr
      refine lv_iconst (v := -1) hx hb dX3_sheet_30 (by decide) ?_
      exact m_riw (C := C) hret hlk hX hS (Option.some.inj hr) dX3_sheet_31
    · replace hr := ie c2 hr
      refine lv_iload_n hx hb dX3_sheet_24 rfl (lv_at hl 3 rfl) ?_
      refine lv_bipush (v := 24) hx hb dX3_sheet_25 (by decide) ?_
      refine lv_icmp_le (tgt := 32) hx hb dX3_sheet_27 (by decide) (fun c3 => ?_) (fun c3 => ?_)
      · replace hr := it c3 hr
        refine lv_iload_n hx hb dX3_sheet_32 rfl (lv_at hl 3 rfl) ?_
        refine lv_if_ge (tgt := 39) hx hb dX3_sheet_33 (by decide) (fun c4 => ?_) (fun c4 => ?_)
        · replace hr := it c4 hr
          refine lv_aload_n hx hb dX3_sheet_39 rfl (lv_at hl 0 rfl) ?_
          refine m_ga (k := 12) (d := 0) C q1710 rfl (by decide) hX dX3_sheet_40 ?_
          refine lv_iload_n hx hb dX3_sheet_43 rfl (lv_at hl 1 rfl) ?_
          refine lv_iload_n hx hb dX3_sheet_44 rfl (lv_at hl 2 rfl) ?_
          obtain ⟨x5, e5, hr⟩ := ob hr
          refine m_is (k := 12) C rfl hX hS e5 dX3_sheet_45 (fun H locs hX hS => ?_)
          refine lv_aload_n hx hb dX3_sheet_46 rfl (lv_at hl 0 rfl) ?_
          refine m_ga (k := 13) (d := 0) C q1711 rfl (by decide) hX dX3_sheet_47 ?_
          refine lv_iload_n hx hb dX3_sheet_50 rfl (lv_at hl 1 rfl) ?_
          refine lv_iload_n hx hb dX3_sheet_51 rfl (lv_at hl 3 rfl) ?_
          obtain ⟨x6, e6, hr⟩ := ob hr
          refine m_is (k := 13) C rfl hX hS e6 dX3_sheet_52 (fun H locs hX hS => ?_)
          refine lv_iconst (v := 0) hx hb dX3_sheet_53 (by decide) ?_
          refine lv_istore (lv' := [(4, .int (0 : Int32)), (0, .ref (zh G)), (1, .int a1), (2, .int a2), (3, .int a3)]) hx hb dX3_sheet_54 hl (by decide) rfl (fun ls hl => ?_)
          obtain ⟨z9, e9, hr⟩ := ob hr
          refine m_join (I := fun (_ : Unit) H locs ls => mX G z9 H ∧ va_S (zA G) s.heap H locs ∧ lv_has ls 5 []) 82 (fun _ => []) (fun _ H locs ls hi => ?_) (fun J7_82 => ?_)
          · obtain ⟨hX, hS, hl⟩ := hi
            refine lv_iconst (v := 1) hx hb dX3_sheet_82 (by decide) ?_
            exact m_riw (C := C) hret hlk hX hS (Option.some.inj hr) dX3_sheet_83
          refine m_loop e9 (fun (t7 : mS × Int32) H locs ls => mX G t7.1 H ∧ va_S (zA G) s.heap H locs ∧ lv_has ls 5 [(0, .ref (zh G)), (1, .int a1), (4, .int t7.2)]) 56 ⟨hX, hS, lv_sub hl [1, 2, 0] rfl⟩ (fun t7 y7 b7 w7 k7 H locs ls hi => ?_)
          obtain ⟨hX, hS, hl⟩ := hi
          unfold fm_sheet_l56 at b7
          refine lv_iload hx hb dX3_sheet_56 (lv_at hl 2 rfl) ?_
          refine lv_bipush (v := 24) hx hb dX3_sheet_58 (by decide) ?_
          refine lv_icmp_ge (tgt := 82) hx hb dX3_sheet_60 (by decide) (fun c10 => ?_) (fun c10 => ?_)
          · replace b7 := it c10 b7
            replace b7 := lx b7 w7
            subst b7
            exact J7_82 () _ _ ls ⟨hX, hS, lv_sub hl [] rfl⟩
          · replace b7 := ie c10 b7
            refine lv_aload_n hx hb dX3_sheet_63 rfl (lv_at hl 0 rfl) ?_
            refine m_ga (k := 14) (d := 0) C q1712 rfl (by decide) hX dX3_sheet_64 ?_
            refine lv_bipush (v := 24) hx hb dX3_sheet_67 (by decide) ?_
            refine lv_iload_n hx hb dX3_sheet_69 rfl (lv_at hl 1 rfl) ?_
            refine lv_imul hx hb dX3_sheet_70 ?_
            refine lv_iload hx hb dX3_sheet_71 (lv_at hl 2 rfl) ?_
            refine lv_iadd hx hb dX3_sheet_73 ?_
            refine lv_iconst (v := 0) hx hb dX3_sheet_74 (by decide) ?_
            obtain ⟨x11, e11, b7⟩ := ob b7
            refine m_is (k := 14) C rfl hX hS e11 dX3_sheet_75 (fun H locs hX hS => ?_)
            refine lv_iinc (v := (t7.2 + (1 : Int32))) (k := 2) (lv' := [(4, .int (t7.2 + (1 : Int32))), (0, .ref (zh G)), (1, .int a1)]) hx hb dX3_sheet_76 hl rfl rfl (by decide) rfl (fun ls hl => ?_)
            refine lv_goto (tgt := 56) hx hb dX3_sheet_79 (by decide) ?_
            obtain ⟨g12, hg12⟩ : ∃ g, g = (t7.2 + (1 : Int32)) := ⟨_, rfl⟩
            rw [← hg12] at hl b7
            exact k7 _ (Option.some.inj b7).symm _ _ ls ⟨hX, hS, lv_sub hl [1, 2, 0] rfl⟩
        · replace hr := ie c4 hr
          refine lv_bipush (v := -14) hx hb dX3_sheet_36 (by decide) ?_
          exact m_riw (C := C) hret hlk hX hS (Option.some.inj hr) dX3_sheet_38
      · replace hr := ie c3 hr
        refine lv_iconst (v := -1) hx hb dX3_sheet_30 (by decide) ?_
        exact m_riw (C := C) hret hlk hX hS (Option.some.inj hr) dX3_sheet_31

def fm_lay (S : mS) (a1 : Int32) (a2 : Int32) (a3 : Int32) : Option (mS × Int32) :=
  (if (fm_in a1.toInt64 (0 : Int64) (3 : Int64)) = 0 then
  some (S, (-1 : Int32))
  else
  (aI S 12 a1).bind fun x2 =>
  (if x2 = (-4 : Int32) then
  some (S, (-11 : Int32))
  else
  (aI S 13 a1).bind fun x4 =>
  (if (fm_in a2.toInt64 (0 : Int64) ((x4 - (1 : Int32)).toInt64)) = 0 then
  some (S, (-12 : Int32))
  else
  (aI S 12 a1).bind fun x6 =>
  (if x6 = 0 then
  (dI a3 (100 : Int32)).bind fun x12 =>
  (tI S 14 (((24 : Int32) * a1) + a2) x12).bind fun x13 =>
  some (x13, (1 : Int32))
  else
  (aI S 12 a1).bind fun x8 =>
  (if x8 = (1 : Int32) then
  (tI S 14 (((24 : Int32) * a1) + a2) a3.toInt16.toInt32).bind fun x11 =>
  some (x11, (1 : Int32))
  else
  (tI S 14 (((24 : Int32) * a1) + a2) a3.toInt8.toInt32).bind fun x10 =>
  some (x10, (1 : Int32)))))))
set_option maxHeartbeats 4000000 in
set_option maxRecDepth 100000 in
theorem cm_lay (l : Launch) (G : mGh) (hG : mOk G) (S : mS) (a1 : Int32) (a2 : Int32) (a3 : Int32) {S' : mS} {r : Int32} (hr : fm_lay S a1 a2 a3 = some (S', r)) : Met l yX3_lay (ws_ yX3_lay cX3_lay 4 (some .int)) ({ frames := 1, cells := 0, slots := 0, locals := 25 } : Room) (mPc G [.int a1, .int a2, .int a3] S) (mQi G r S') 0 0 (zA G) := by
  refine m_met cX3_lay (by decide) rfl hG (Nat.le_of_ble_eq_true rfl) (fun p e s m args below meth c C hret hlk ls hX hl => ?_)
  have hx := C.1.1
  have hb := C.1.2.1
  have hown := C.1.2.2.2.1
  have hts := C.1.2.2.2.2
  have hS : va_S (zA G) s.heap s.heap [] := va_S.rf
  have hl : lv_has ls 4 [(0, .ref (zh G)), (1, .int a1), (2, .int a2), (3, .int a3)] := hl
  unfold fm_lay at hr
  refine lv_iload_n hx hb dX3_lay_0 rfl (lv_at hl 1 rfl) ?_
  refine lv_i2l (v := a1.toInt64) hx hb dX3_lay_1 rfl ?_
  refine lv_lconst (v := 0) hx hb dX3_lay_2 (by decide) ?_
  refine lv_ldc2 hx hb hown (hts _ q2036) dX3_lay_3 ?_
  refine m_csi (As := [.long a1.toInt64, .long (0 : Int64), .long (3 : Int64)]) (rest := []) C hX hS hl.1 (cm_in l a1.toInt64 (0 : Int64) (3 : Int64) rfl) (va_cwS 3 hts (lw_S q1974 q1975 q109 q1976) rfl rfl rfl (by decide +kernel) ⟨Nat.le_of_ble_eq_true rfl, Nat.le_of_ble_eq_true rfl⟩) rfl rfl (Nat.le_of_ble_eq_true rfl) dX3_lay_6 (fun H locs hX hS => ?_)
  refine lv_if_ne (tgt := 14) hx hb dX3_lay_9 (by decide) (fun c1 => ?_) (fun c1 => ?_)
  · replace hr := ie c1 hr
    refine lv_aload_n hx hb dX3_lay_14 rfl (lv_at hl 0 rfl) ?_
    refine m_ga (k := 12) (d := 0) C q1710 rfl (by decide) hX dX3_lay_15 ?_
    refine lv_iload_n hx hb dX3_lay_18 rfl (lv_at hl 1 rfl) ?_
    obtain ⟨x2, e2, hr⟩ := ob hr
    refine m_ia (k := 12) C rfl hX e2 dX3_lay_19 ?_
    refine lv_bipush (v := -4) hx hb dX3_lay_20 (by decide) ?_
    refine lv_icmp_ne (tgt := 28) hx hb dX3_lay_22 (by decide) (fun c3 => ?_) (fun c3 => ?_)
    · replace hr := ie c3 hr
      refine lv_iload_n hx hb dX3_lay_28 rfl (lv_at hl 2 rfl) ?_
      refine lv_i2l (v := a2.toInt64) hx hb dX3_lay_29 rfl ?_
      refine lv_lconst (v := 0) hx hb dX3_lay_30 (by decide) ?_
      refine lv_aload_n hx hb dX3_lay_31 rfl (lv_at hl 0 rfl) ?_
      refine m_ga (k := 13) (d := 0) C q1711 rfl (by decide) hX dX3_lay_32 ?_
      refine lv_iload_n hx hb dX3_lay_35 rfl (lv_at hl 1 rfl) ?_
      obtain ⟨x4, e4, hr⟩ := ob hr
      refine m_ia (k := 13) C rfl hX e4 dX3_lay_36 ?_
      refine lv_iconst (v := 1) hx hb dX3_lay_37 (by decide) ?_
      refine lv_isub hx hb dX3_lay_38 ?_
      refine lv_i2l (v := (x4 - (1 : Int32)).toInt64) hx hb dX3_lay_39 rfl ?_
      refine m_csi (As := [.long a2.toInt64, .long (0 : Int64), .long ((x4 - (1 : Int32)).toInt64)]) (rest := []) C hX hS hl.1 (cm_in l a2.toInt64 (0 : Int64) ((x4 - (1 : Int32)).toInt64) rfl) (va_cwS 3 hts (lw_S q1974 q1975 q109 q1976) rfl rfl rfl (by decide +kernel) ⟨Nat.le_of_ble_eq_true rfl, Nat.le_of_ble_eq_true rfl⟩) rfl rfl (Nat.le_of_ble_eq_true rfl) dX3_lay_40 (fun H locs hX hS => ?_)
      refine lv_if_ne (tgt := 49) hx hb dX3_lay_43 (by decide) (fun c5 => ?_) (fun c5 => ?_)
      · replace hr := ie c5 hr
        refine lv_aload_n hx hb dX3_lay_49 rfl (lv_at hl 0 rfl) ?_
        refine m_ga (k := 14) (d := 0) C q1712 rfl (by decide) hX dX3_lay_50 ?_
        refine lv_bipush (v := 24) hx hb dX3_lay_53 (by decide) ?_
        refine lv_iload_n hx hb dX3_lay_55 rfl (lv_at hl 1 rfl) ?_
        refine lv_imul hx hb dX3_lay_56 ?_
        refine lv_iload_n hx hb dX3_lay_57 rfl (lv_at hl 2 rfl) ?_
        refine lv_iadd hx hb dX3_lay_58 ?_
        refine lv_aload_n hx hb dX3_lay_59 rfl (lv_at hl 0 rfl) ?_
        refine m_ga (k := 12) (d := 0) C q1710 rfl (by decide) hX dX3_lay_60 ?_
        refine lv_iload_n hx hb dX3_lay_63 rfl (lv_at hl 1 rfl) ?_
        obtain ⟨x6, e6, hr⟩ := ob hr
        refine m_ia (k := 12) C rfl hX e6 dX3_lay_64 ?_
        refine lv_if_ne (tgt := 75) hx hb dX3_lay_65 (by decide) (fun c7 => ?_) (fun c7 => ?_)
        · replace hr := ie c7 hr
          refine lv_aload_n hx hb dX3_lay_75 rfl (lv_at hl 0 rfl) ?_
          refine m_ga (k := 12) (d := 0) C q1710 rfl (by decide) hX dX3_lay_76 ?_
          refine lv_iload_n hx hb dX3_lay_79 rfl (lv_at hl 1 rfl) ?_
          obtain ⟨x8, e8, hr⟩ := ob hr
          refine m_ia (k := 12) C rfl hX e8 dX3_lay_80 ?_
          refine lv_iconst (v := 1) hx hb dX3_lay_81 (by decide) ?_
          refine lv_icmp_ne (tgt := 90) hx hb dX3_lay_82 (by decide) (fun c9 => ?_) (fun c9 => ?_)
          · replace hr := ie c9 hr
            refine lv_iload_n hx hb dX3_lay_90 rfl (lv_at hl 3 rfl) ?_
            refine lv_i2b (v := a3.toInt8.toInt32) hx hb dX3_lay_91 rfl ?_
            obtain ⟨x10, e10, hr⟩ := ob hr
            refine m_is (k := 14) C rfl hX hS e10 dX3_lay_92 (fun H locs hX hS => ?_)
            refine lv_iconst (v := 1) hx hb dX3_lay_93 (by decide) ?_
            exact m_riw (C := C) hret hlk hX hS (Option.some.inj hr) dX3_lay_94
          · replace hr := it c9 hr
            refine lv_iload_n hx hb dX3_lay_85 rfl (lv_at hl 3 rfl) ?_
            refine lv_i2s (v := a3.toInt16.toInt32) hx hb dX3_lay_86 rfl ?_
            refine lv_goto (tgt := 92) hx hb dX3_lay_87 (by decide) ?_
            obtain ⟨x11, e11, hr⟩ := ob hr
            refine m_is (k := 14) C rfl hX hS e11 dX3_lay_92 (fun H locs hX hS => ?_)
            refine lv_iconst (v := 1) hx hb dX3_lay_93 (by decide) ?_
            exact m_riw (C := C) hret hlk hX hS (Option.some.inj hr) dX3_lay_94
        · replace hr := it c7 hr
          refine lv_iload_n hx hb dX3_lay_68 rfl (lv_at hl 3 rfl) ?_
          refine lv_bipush (v := 100) hx hb dX3_lay_69 (by decide) ?_
          obtain ⟨x12, e12, hr⟩ := ob hr
          refine m_id C e12 dX3_lay_71 ?_
          refine lv_goto (tgt := 92) hx hb dX3_lay_72 (by decide) ?_
          obtain ⟨x13, e13, hr⟩ := ob hr
          refine m_is (k := 14) C rfl hX hS e13 dX3_lay_92 (fun H locs hX hS => ?_)
          refine lv_iconst (v := 1) hx hb dX3_lay_93 (by decide) ?_
          exact m_riw (C := C) hret hlk hX hS (Option.some.inj hr) dX3_lay_94
      · replace hr := it c5 hr
        refine lv_bipush (v := -12) hx hb dX3_lay_46 (by decide) ?_
        exact m_riw (C := C) hret hlk hX hS (Option.some.inj hr) dX3_lay_48
    · replace hr := it c3 hr
      refine lv_bipush (v := -11) hx hb dX3_lay_25 (by decide) ?_
      exact m_riw (C := C) hret hlk hX hS (Option.some.inj hr) dX3_lay_27
  · replace hr := it c1 hr
    refine lv_iconst (v := -1) hx hb dX3_lay_12 (by decide) ?_
    exact m_riw (C := C) hret hlk hX hS (Option.some.inj hr) dX3_lay_13

def fm_tear (S : mS) (a1 : Int32) : Option (mS × Int32) :=
  (if (fm_in a1.toInt64 (0 : Int64) (3 : Int64)) = 0 then
  some (S, (-1 : Int32))
  else
  (aI S 12 a1).bind fun x2 =>
  (if x2 = (-4 : Int32) then
  (tI S 12 a1 (-4 : Int32)).bind fun x5 =>
  some (x5, (0 : Int32))
  else
  (tI S 12 a1 (-4 : Int32)).bind fun x4 =>
  some (x4, (1 : Int32))))
set_option maxHeartbeats 4000000 in
set_option maxRecDepth 100000 in
theorem cm_tear (l : Launch) (G : mGh) (hG : mOk G) (S : mS) (a1 : Int32) {S' : mS} {r : Int32} (hr : fm_tear S a1 = some (S', r)) : Met l yX3_tear (ws_ yX3_tear cX3_tear 3 (some .int)) ({ frames := 1, cells := 0, slots := 0, locals := 25 } : Room) (mPc G [.int a1] S) (mQi G r S') 0 0 (zA G) := by
  refine m_met cX3_tear (by decide) rfl hG (Nat.le_of_ble_eq_true rfl) (fun p e s m args below meth c C hret hlk ls hX hl => ?_)
  have hx := C.1.1
  have hb := C.1.2.1
  have hown := C.1.2.2.2.1
  have hts := C.1.2.2.2.2
  have hS : va_S (zA G) s.heap s.heap [] := va_S.rf
  have hl : lv_has ls 3 [(0, .ref (zh G)), (1, .int a1)] := hl
  unfold fm_tear at hr
  refine lv_iload_n hx hb dX3_tear_0 rfl (lv_at hl 1 rfl) ?_
  refine lv_i2l (v := a1.toInt64) hx hb dX3_tear_1 rfl ?_
  refine lv_lconst (v := 0) hx hb dX3_tear_2 (by decide) ?_
  refine lv_ldc2 hx hb hown (hts _ q2036) dX3_tear_3 ?_
  refine m_csi (As := [.long a1.toInt64, .long (0 : Int64), .long (3 : Int64)]) (rest := []) C hX hS hl.1 (cm_in l a1.toInt64 (0 : Int64) (3 : Int64) rfl) (va_cwS 3 hts (lw_S q1974 q1975 q109 q1976) rfl rfl rfl (by decide +kernel) ⟨Nat.le_of_ble_eq_true rfl, Nat.le_of_ble_eq_true rfl⟩) rfl rfl (Nat.le_of_ble_eq_true rfl) dX3_tear_6 (fun H locs hX hS => ?_)
  refine lv_if_ne (tgt := 14) hx hb dX3_tear_9 (by decide) (fun c1 => ?_) (fun c1 => ?_)
  · replace hr := ie c1 hr
    refine lv_aload_n hx hb dX3_tear_14 rfl (lv_at hl 0 rfl) ?_
    refine m_ga (k := 12) (d := 0) C q1710 rfl (by decide) hX dX3_tear_15 ?_
    refine lv_iload_n hx hb dX3_tear_18 rfl (lv_at hl 1 rfl) ?_
    obtain ⟨x2, e2, hr⟩ := ob hr
    refine m_ia (k := 12) C rfl hX e2 dX3_tear_19 ?_
    refine lv_bipush (v := -4) hx hb dX3_tear_20 (by decide) ?_
    refine lv_icmp_ne (tgt := 29) hx hb dX3_tear_22 (by decide) (fun c3 => ?_) (fun c3 => ?_)
    · replace hr := ie c3 hr
      refine lv_iconst (v := 1) hx hb dX3_tear_29 (by decide) ?_
      refine lv_istore_n (lv' := [(2, .int (1 : Int32)), (0, .ref (zh G)), (1, .int a1)]) hx hb dX3_tear_30 rfl hl (by decide) rfl (fun ls hl => ?_)
      refine lv_aload_n hx hb dX3_tear_31 rfl (lv_at hl 1 rfl) ?_
      refine m_ga (k := 12) (d := 0) C q1710 rfl (by decide) hX dX3_tear_32 ?_
      refine lv_iload_n hx hb dX3_tear_35 rfl (lv_at hl 2 rfl) ?_
      refine lv_bipush (v := -4) hx hb dX3_tear_36 (by decide) ?_
      obtain ⟨x4, e4, hr⟩ := ob hr
      refine m_is (k := 12) C rfl hX hS e4 dX3_tear_38 (fun H locs hX hS => ?_)
      refine lv_iload_n hx hb dX3_tear_39 rfl (lv_at hl 0 rfl) ?_
      exact m_riw (C := C) hret hlk hX hS (Option.some.inj hr) dX3_tear_40
    · replace hr := it c3 hr
      refine lv_iconst (v := 0) hx hb dX3_tear_25 (by decide) ?_
      refine lv_goto (tgt := 30) hx hb dX3_tear_26 (by decide) ?_
      refine lv_istore_n (lv' := [(2, .int (0 : Int32)), (0, .ref (zh G)), (1, .int a1)]) hx hb dX3_tear_30 rfl hl (by decide) rfl (fun ls hl => ?_)
      refine lv_aload_n hx hb dX3_tear_31 rfl (lv_at hl 1 rfl) ?_
      refine m_ga (k := 12) (d := 0) C q1710 rfl (by decide) hX dX3_tear_32 ?_
      refine lv_iload_n hx hb dX3_tear_35 rfl (lv_at hl 2 rfl) ?_
      refine lv_bipush (v := -4) hx hb dX3_tear_36 (by decide) ?_
      obtain ⟨x5, e5, hr⟩ := ob hr
      refine m_is (k := 12) C rfl hX hS e5 dX3_tear_38 (fun H locs hX hS => ?_)
      refine lv_iload_n hx hb dX3_tear_39 rfl (lv_at hl 0 rfl) ?_
      exact m_riw (C := C) hret hlk hX hS (Option.some.inj hr) dX3_tear_40
  · replace hr := it c1 hr
    refine lv_iconst (v := -1) hx hb dX3_tear_12 (by decide) ?_
    exact m_riw (C := C) hret hlk hX hS (Option.some.inj hr) dX3_tear_13

def fm_faultOf (S : mS) (a1 : Int32) (a2 : Int32) : Option Int32 :=
  (aI S 12 a2).bind fun x1 =>
  (if x1 = (-4 : Int32) then
  some (1 : Int32)
  else
  (aI S 12 a2).bind fun x3 =>
  (if x3 = a2 then
  (aI S 13 a2).bind fun x5 =>
  (if a1 < x5 then
  some (0 : Int32)
  else
  some (2 : Int32))
  else
  some (3 : Int32)))
set_option maxHeartbeats 4000000 in
set_option maxRecDepth 100000 in
theorem cm_faultOf (l : Launch) (G : mGh) (hG : mOk G) (S : mS) (a1 : Int32) (a2 : Int32) {r : Int32} (hr : fm_faultOf S a1 a2 = some r) : Met l yX3_faultOf (ws_ yX3_faultOf cX3_faultOf 3 (some .int)) ({ frames := 0, cells := 0, slots := 0, locals := 0 } : Room) (mPc G [.int a1, .int a2] S) (mQi G r S) 0 0 (zA G) := by
  refine m_met cX3_faultOf (by decide) rfl hG (Nat.le_of_ble_eq_true rfl) (fun p e s m args below meth c C hret hlk ls hX hl => ?_)
  have hx := C.1.1
  have hb := C.1.2.1
  have hown := C.1.2.2.2.1
  have hts := C.1.2.2.2.2
  have hS : va_S (zA G) s.heap s.heap [] := va_S.rf
  have hl : lv_has ls 3 [(0, .ref (zh G)), (1, .int a1), (2, .int a2)] := hl
  unfold fm_faultOf at hr
  refine lv_aload_n hx hb dX3_faultOf_0 rfl (lv_at hl 0 rfl) ?_
  refine m_ga (k := 12) (d := 0) C q1710 rfl (by decide) hX dX3_faultOf_1 ?_
  refine lv_iload_n hx hb dX3_faultOf_4 rfl (lv_at hl 2 rfl) ?_
  obtain ⟨x1, e1, hr⟩ := ob hr
  refine m_ia (k := 12) C rfl hX e1 dX3_faultOf_5 ?_
  refine lv_bipush (v := -4) hx hb dX3_faultOf_6 (by decide) ?_
  refine lv_icmp_ne (tgt := 15) hx hb dX3_faultOf_8 (by decide) (fun c2 => ?_) (fun c2 => ?_)
  · replace hr := ie c2 hr
    refine lv_aload_n hx hb dX3_faultOf_15 rfl (lv_at hl 0 rfl) ?_
    refine m_ga (k := 12) (d := 0) C q1710 rfl (by decide) hX dX3_faultOf_16 ?_
    refine lv_iload_n hx hb dX3_faultOf_19 rfl (lv_at hl 2 rfl) ?_
    obtain ⟨x3, e3, hr⟩ := ob hr
    refine m_ia (k := 12) C rfl hX e3 dX3_faultOf_20 ?_
    refine lv_iload_n hx hb dX3_faultOf_21 rfl (lv_at hl 2 rfl) ?_
    refine lv_icmp_eq (tgt := 29) hx hb dX3_faultOf_22 (by decide) (fun c4 => ?_) (fun c4 => ?_)
    · replace hr := it c4 hr
      refine lv_iload_n hx hb dX3_faultOf_29 rfl (lv_at hl 1 rfl) ?_
      refine lv_aload_n hx hb dX3_faultOf_30 rfl (lv_at hl 0 rfl) ?_
      refine m_ga (k := 13) (d := 0) C q1711 rfl (by decide) hX dX3_faultOf_31 ?_
      refine lv_iload_n hx hb dX3_faultOf_34 rfl (lv_at hl 2 rfl) ?_
      obtain ⟨x5, e5, hr⟩ := ob hr
      refine m_ia (k := 13) C rfl hX e5 dX3_faultOf_35 ?_
      refine lv_icmp_lt (tgt := 43) hx hb dX3_faultOf_36 (by decide) (fun c6 => ?_) (fun c6 => ?_)
      · replace hr := it c6 hr
        refine lv_iconst (v := 0) hx hb dX3_faultOf_43 (by decide) ?_
        exact m_ri (C := C) hret hlk hX hS (Option.some.inj hr) dX3_faultOf_44
      · replace hr := ie c6 hr
        refine lv_iconst (v := 2) hx hb dX3_faultOf_39 (by decide) ?_
        refine lv_goto (tgt := 44) hx hb dX3_faultOf_40 (by decide) ?_
        exact m_ri (C := C) hret hlk hX hS (Option.some.inj hr) dX3_faultOf_44
    · replace hr := ie c4 hr
      refine lv_iconst (v := 3) hx hb dX3_faultOf_25 (by decide) ?_
      refine lv_goto (tgt := 44) hx hb dX3_faultOf_26 (by decide) ?_
      exact m_ri (C := C) hret hlk hX hS (Option.some.inj hr) dX3_faultOf_44
  · replace hr := it c2 hr
    refine lv_iconst (v := 1) hx hb dX3_faultOf_11 (by decide) ?_
    refine lv_goto (tgt := 44) hx hb dX3_faultOf_12 (by decide) ?_
    exact m_ri (C := C) hret hlk hX hS (Option.some.inj hr) dX3_faultOf_44

def fm_held (a1 : Int32) (a2 : Int32) (a3 : Int32) : Int32 :=
  (if a2 ≤ a1 then
  (if a1 ≤ a3 then
  a1
  else
  a3)
  else
  a2)
set_option maxHeartbeats 4000000 in
set_option maxRecDepth 100000 in
theorem cm_held (l : Launch) (a1 : Int32) (a2 : Int32) (a3 : Int32) {r : Int32} (hr : fm_held a1 a2 a3 = r) : Met l yX3_held (ws_ yX3_held cX3_held 3 (some .int)) ({ frames := 0, cells := 0, slots := 0, locals := 0 } : Room) (nPc [.int a1, .int a2, .int a3]) (nQi r) 0 0 (fun _ => False) := by
  refine n_met cX3_held RX3 (by decide) rfl (Nat.le_of_ble_eq_true rfl) (fun p e s m args below meth c C hret hlk ls hl => ?_)
  have hx := C.1
  have hb := C.2.1
  have hown := C.2.2.2.1
  have hts := C.2.2.2.2
  have hl : lv_has ls 3 [(0, .int a1), (1, .int a2), (2, .int a3)] := hl
  unfold fm_held at hr
  refine lv_iload_n hx hb dX3_held_0 rfl (lv_at hl 0 rfl) ?_
  refine lv_iload_n hx hb dX3_held_1 rfl (lv_at hl 1 rfl) ?_
  refine lv_icmp_ge (tgt := 9) hx hb dX3_held_2 (by decide) (fun c1 => ?_) (fun c1 => ?_)
  · replace hr := it c1 hr
    refine lv_iload_n hx hb dX3_held_9 rfl (lv_at hl 0 rfl) ?_
    refine lv_iload_n hx hb dX3_held_10 rfl (lv_at hl 2 rfl) ?_
    refine lv_icmp_le (tgt := 18) hx hb dX3_held_11 (by decide) (fun c2 => ?_) (fun c2 => ?_)
    · replace hr := it c2 hr
      refine lv_iload_n hx hb dX3_held_18 rfl (lv_at hl 0 rfl) ?_
      exact n_ri hx hb hret hlk hr dX3_held_19
    · replace hr := ie c2 hr
      refine lv_iload_n hx hb dX3_held_14 rfl (lv_at hl 2 rfl) ?_
      refine lv_goto (tgt := 19) hx hb dX3_held_15 (by decide) ?_
      exact n_ri hx hb hret hlk hr dX3_held_19
  · replace hr := ie c1 hr
    refine lv_iload_n hx hb dX3_held_5 rfl (lv_at hl 1 rfl) ?_
    refine lv_goto (tgt := 19) hx hb dX3_held_6 (by decide) ?_
    exact n_ri hx hb hret hlk hr dX3_held_19

def fm_weatherOf_k12 (S : mS) (a1 : Int32) (a2 : Int32) (x1 : Int32) : Option (Int32) :=
  (fm_faultOf S a1 a2).bind fun x4 =>
  (if x4 ≤ 0 then
  (aI S 14 (((24 : Int32) * a2) + a1)).bind fun x6 =>
  some (fm_held x6 (0 : Int32) x1)
  else
  some x1)
def fm_weatherOf (S : mS) (a1 : Int32) (a2 : Int32) : Option Int32 :=
  (((if a2 = 0 then
  some (200 : Int32)
  else
  some (99 : Int32)) : Option (Int32))).bind (fun x1 => fm_weatherOf_k12 S a1 a2 x1)
set_option maxHeartbeats 4000000 in
set_option maxRecDepth 100000 in
theorem cm_weatherOf (l : Launch) (G : mGh) (hG : mOk G) (S : mS) (a1 : Int32) (a2 : Int32) {r : Int32} (hr : fm_weatherOf S a1 a2 = some r) : Met l yX3_weatherOf (ws_ yX3_weatherOf cX3_weatherOf 4 (some .int)) ({ frames := 1, cells := 0, slots := 0, locals := 22 } : Room) (mPc G [.int a1, .int a2] S) (mQi G r S) 0 0 (zA G) := by
  refine m_met cX3_weatherOf (by decide) rfl hG (Nat.le_of_ble_eq_true rfl) (fun p e s m args below meth c C hret hlk ls hX hl => ?_)
  have hx := C.1.1
  have hb := C.1.2.1
  have hown := C.1.2.2.2.1
  have hts := C.1.2.2.2.2
  have hS : va_S (zA G) s.heap s.heap [] := va_S.rf
  have hl : lv_has ls 4 [(0, .ref (zh G)), (1, .int a1), (2, .int a2)] := hl
  unfold fm_weatherOf at hr
  refine lv_iload_n hx hb dX3_weatherOf_0 rfl (lv_at hl 2 rfl) ?_
  obtain ⟨x1, r1, hr⟩ := ob hr
  refine m_join (I := fun (t2 : Int32) H locs ls => x1 = t2 ∧ mX G S H ∧ va_S (zA G) s.heap H locs ∧ lv_has ls 4 [(0, .ref (zh G)), (1, .int a1), (2, .int a2)]) 12 (fun t2 => [.int t2]) (fun t2 H locs ls hi => ?_) (fun J1 => ?_)
  · obtain ⟨rfl, hX, hS, hl⟩ := hi
    unfold fm_weatherOf_k12 at hr
    refine lv_istore_n (lv' := [(3, .int x1), (0, .ref (zh G)), (1, .int a1), (2, .int a2)]) hx hb dX3_weatherOf_12 rfl hl (by decide) rfl (fun ls hl => ?_)
    refine lv_aload_n hx hb dX3_weatherOf_13 rfl (lv_at hl 1 rfl) ?_
    refine lv_iload_n hx hb dX3_weatherOf_14 rfl (lv_at hl 2 rfl) ?_
    refine lv_iload_n hx hb dX3_weatherOf_15 rfl (lv_at hl 3 rfl) ?_
    obtain ⟨x4, e4, hr⟩ := ob hr
    refine m_cvi (As := [.int a1, .int a2]) (rest := []) C hX hS hl.1 (cm_faultOf l G hG S a1 a2 e4) (cwV 2 hts (lw_V q2055 q2057 qs59 q109 q2058) rfl rfl rfl (by decide +kernel) ⟨Nat.le_of_ble_eq_true rfl, Nat.le_of_ble_eq_true rfl⟩) rfl rfl (Nat.le_of_ble_eq_true rfl) dX3_weatherOf_16 (fun H locs hX hS => ?_)
    refine lv_if_le (tgt := 26) hx hb dX3_weatherOf_19 (by decide) (fun c5 => ?_) (fun c5 => ?_)
    · replace hr := it c5 hr
      refine lv_aload_n hx hb dX3_weatherOf_26 rfl (lv_at hl 1 rfl) ?_
      refine m_ga (k := 14) (d := 0) C q1712 rfl (by decide) hX dX3_weatherOf_27 ?_
      refine lv_bipush (v := 24) hx hb dX3_weatherOf_30 (by decide) ?_
      refine lv_iload_n hx hb dX3_weatherOf_32 rfl (lv_at hl 3 rfl) ?_
      refine lv_imul hx hb dX3_weatherOf_33 ?_
      refine lv_iload_n hx hb dX3_weatherOf_34 rfl (lv_at hl 2 rfl) ?_
      refine lv_iadd hx hb dX3_weatherOf_35 ?_
      obtain ⟨x6, e6, hr⟩ := ob hr
      refine m_ia (k := 14) C rfl hX e6 dX3_weatherOf_36 ?_
      refine lv_iconst (v := 0) hx hb dX3_weatherOf_37 (by decide) ?_
      refine lv_iload_n hx hb dX3_weatherOf_38 rfl (lv_at hl 0 rfl) ?_
      refine m_csi (As := [.int x6, .int (0 : Int32), .int x1]) (rest := []) C hX hS hl.1 (cm_held l x6 (0 : Int32) x1 rfl) (va_cwS 3 hts (lw_S q2059 q2060 q109 q2061) rfl rfl rfl (by decide +kernel) ⟨Nat.le_of_ble_eq_true rfl, Nat.le_of_ble_eq_true rfl⟩) rfl rfl (Nat.le_of_ble_eq_true rfl) dX3_weatherOf_39 (fun H locs hX hS => ?_)
      exact m_ri (C := C) hret hlk hX hS (Option.some.inj hr) dX3_weatherOf_42
    · replace hr := ie c5 hr
      refine lv_iload_n hx hb dX3_weatherOf_22 rfl (lv_at hl 0 rfl) ?_
      refine lv_goto (tgt := 42) hx hb dX3_weatherOf_23 (by decide) ?_
      exact m_ri (C := C) hret hlk hX hS (Option.some.inj hr) dX3_weatherOf_42
  · refine lv_if_ne (tgt := 10) hx hb dX3_weatherOf_1 (by decide) (fun c3 => ?_) (fun c3 => ?_)
    · replace r1 := ie c3 r1
      refine lv_bipush (v := 99) hx hb dX3_weatherOf_10 (by decide) ?_
      exact J1 _ _ _ ls ⟨(Option.some.inj r1).symm, hX, hS, hl⟩
    · replace r1 := it c3 r1
      refine lv_sipush (v := 200) hx hb dX3_weatherOf_4 (by decide) ?_
      refine lv_goto (tgt := 12) hx hb dX3_weatherOf_7 (by decide) ?_
      exact J1 _ _ _ ls ⟨(Option.some.inj r1).symm, hX, hS, hl⟩

def fm_weather (S : mS) (a1 : Int32) (a2 : Int32) : Option Int32 :=
  (if (fm_in a1.toInt64 (0 : Int64) (23 : Int64)) = 0 then
  some (-1 : Int32)
  else
  (if (fm_in a2.toInt64 (0 : Int64) (2 : Int64)) = 0 then
  some (-1 : Int32)
  else
  (fm_weatherOf S a1 a2).bind fun x3 =>
  some x3))
set_option maxHeartbeats 4000000 in
set_option maxRecDepth 100000 in
theorem cm_weather (l : Launch) (G : mGh) (hG : mOk G) (S : mS) (a1 : Int32) (a2 : Int32) {r : Int32} (hr : fm_weather S a1 a2 = some r) : Met l yX3_weather (ws_ yX3_weather cX3_weather 3 (some .int)) ({ frames := 2, cells := 0, slots := 0, locals := 45 } : Room) (mPc G [.int a1, .int a2] S) (mQi G r S) 0 0 (zA G) := by
  refine m_met cX3_weather (by decide) rfl hG (Nat.le_of_ble_eq_true rfl) (fun p e s m args below meth c C hret hlk ls hX hl => ?_)
  have hx := C.1.1
  have hb := C.1.2.1
  have hown := C.1.2.2.2.1
  have hts := C.1.2.2.2.2
  have hS : va_S (zA G) s.heap s.heap [] := va_S.rf
  have hl : lv_has ls 3 [(0, .ref (zh G)), (1, .int a1), (2, .int a2)] := hl
  unfold fm_weather at hr
  refine lv_iload_n hx hb dX3_weather_0 rfl (lv_at hl 1 rfl) ?_
  refine lv_i2l (v := a1.toInt64) hx hb dX3_weather_1 rfl ?_
  refine lv_lconst (v := 0) hx hb dX3_weather_2 (by decide) ?_
  refine lv_ldc2 hx hb hown (hts _ q2050) dX3_weather_3 ?_
  refine m_csi (As := [.long a1.toInt64, .long (0 : Int64), .long (23 : Int64)]) (rest := []) C hX hS hl.1 (cm_in l a1.toInt64 (0 : Int64) (23 : Int64) rfl) (va_cwS 3 hts (lw_S q1974 q1975 q109 q1976) rfl rfl rfl (by decide +kernel) ⟨Nat.le_of_ble_eq_true rfl, Nat.le_of_ble_eq_true rfl⟩) rfl rfl (Nat.le_of_ble_eq_true rfl) dX3_weather_6 (fun H locs hX hS => ?_)
  refine lv_if_eq (tgt := 33) hx hb dX3_weather_9 (by decide) (fun c1 => ?_) (fun c1 => ?_)
  · replace hr := it c1 hr
    refine lv_iconst (v := -1) hx hb dX3_weather_33 (by decide) ?_
    exact m_ri (C := C) hret hlk hX hS (Option.some.inj hr) dX3_weather_34
  · replace hr := ie c1 hr
    refine lv_iload_n hx hb dX3_weather_12 rfl (lv_at hl 2 rfl) ?_
    refine lv_i2l (v := a2.toInt64) hx hb dX3_weather_13 rfl ?_
    refine lv_lconst (v := 0) hx hb dX3_weather_14 (by decide) ?_
    refine lv_ldc2 hx hb hown (hts _ q2037) dX3_weather_15 ?_
    refine m_csi (As := [.long a2.toInt64, .long (0 : Int64), .long (2 : Int64)]) (rest := []) C hX hS hl.1 (cm_in l a2.toInt64 (0 : Int64) (2 : Int64) rfl) (va_cwS 3 hts (lw_S q1974 q1975 q109 q1976) rfl rfl rfl (by decide +kernel) ⟨Nat.le_of_ble_eq_true rfl, Nat.le_of_ble_eq_true rfl⟩) rfl rfl (Nat.le_of_ble_eq_true rfl) dX3_weather_18 (fun H locs hX hS => ?_)
    refine lv_if_eq (tgt := 33) hx hb dX3_weather_21 (by decide) (fun c2 => ?_) (fun c2 => ?_)
    · replace hr := it c2 hr
      refine lv_iconst (v := -1) hx hb dX3_weather_33 (by decide) ?_
      exact m_ri (C := C) hret hlk hX hS (Option.some.inj hr) dX3_weather_34
    · replace hr := ie c2 hr
      refine lv_aload_n hx hb dX3_weather_24 rfl (lv_at hl 0 rfl) ?_
      refine lv_iload_n hx hb dX3_weather_25 rfl (lv_at hl 1 rfl) ?_
      refine lv_iload_n hx hb dX3_weather_26 rfl (lv_at hl 2 rfl) ?_
      obtain ⟨x3, e3, hr⟩ := ob hr
      refine m_cvi (As := [.int a1, .int a2]) (rest := []) C hX hS hl.1 (cm_weatherOf l G hG S a1 a2 e3) (cwV 2 hts (lw_V q2051 q2053 qs58 q109 q2054) rfl rfl rfl (by decide +kernel) ⟨Nat.le_of_ble_eq_true rfl, Nat.le_of_ble_eq_true rfl⟩) rfl rfl (Nat.le_of_ble_eq_true rfl) dX3_weather_27 (fun H locs hX hS => ?_)
      refine lv_goto (tgt := 34) hx hb dX3_weather_30 (by decide) ?_
      exact m_ri (C := C) hret hlk hX hS (Option.some.inj hr) dX3_weather_34

def fm_unknown (S : mS) (a1 : Int32) (a2 : Int32) : Option Int32 :=
  (if (fm_in a1.toInt64 (0 : Int64) (23 : Int64)) = 0 then
  some (-1 : Int32)
  else
  (if (fm_in a2.toInt64 (0 : Int64) (2 : Int64)) = 0 then
  some (-1 : Int32)
  else
  (fm_faultOf S a1 a2).bind fun x3 =>
  some x3))
set_option maxHeartbeats 4000000 in
set_option maxRecDepth 100000 in
theorem cm_unknown (l : Launch) (G : mGh) (hG : mOk G) (S : mS) (a1 : Int32) (a2 : Int32) {r : Int32} (hr : fm_unknown S a1 a2 = some r) : Met l yX3_unknown (ws_ yX3_unknown cX3_unknown 3 (some .int)) ({ frames := 1, cells := 0, slots := 0, locals := 25 } : Room) (mPc G [.int a1, .int a2] S) (mQi G r S) 0 0 (zA G) := by
  refine m_met cX3_unknown (by decide) rfl hG (Nat.le_of_ble_eq_true rfl) (fun p e s m args below meth c C hret hlk ls hX hl => ?_)
  have hx := C.1.1
  have hb := C.1.2.1
  have hown := C.1.2.2.2.1
  have hts := C.1.2.2.2.2
  have hS : va_S (zA G) s.heap s.heap [] := va_S.rf
  have hl : lv_has ls 3 [(0, .ref (zh G)), (1, .int a1), (2, .int a2)] := hl
  unfold fm_unknown at hr
  refine lv_iload_n hx hb dX3_unknown_0 rfl (lv_at hl 1 rfl) ?_
  refine lv_i2l (v := a1.toInt64) hx hb dX3_unknown_1 rfl ?_
  refine lv_lconst (v := 0) hx hb dX3_unknown_2 (by decide) ?_
  refine lv_ldc2 hx hb hown (hts _ q2050) dX3_unknown_3 ?_
  refine m_csi (As := [.long a1.toInt64, .long (0 : Int64), .long (23 : Int64)]) (rest := []) C hX hS hl.1 (cm_in l a1.toInt64 (0 : Int64) (23 : Int64) rfl) (va_cwS 3 hts (lw_S q1974 q1975 q109 q1976) rfl rfl rfl (by decide +kernel) ⟨Nat.le_of_ble_eq_true rfl, Nat.le_of_ble_eq_true rfl⟩) rfl rfl (Nat.le_of_ble_eq_true rfl) dX3_unknown_6 (fun H locs hX hS => ?_)
  refine lv_if_eq (tgt := 33) hx hb dX3_unknown_9 (by decide) (fun c1 => ?_) (fun c1 => ?_)
  · replace hr := it c1 hr
    refine lv_iconst (v := -1) hx hb dX3_unknown_33 (by decide) ?_
    exact m_ri (C := C) hret hlk hX hS (Option.some.inj hr) dX3_unknown_34
  · replace hr := ie c1 hr
    refine lv_iload_n hx hb dX3_unknown_12 rfl (lv_at hl 2 rfl) ?_
    refine lv_i2l (v := a2.toInt64) hx hb dX3_unknown_13 rfl ?_
    refine lv_lconst (v := 0) hx hb dX3_unknown_14 (by decide) ?_
    refine lv_ldc2 hx hb hown (hts _ q2037) dX3_unknown_15 ?_
    refine m_csi (As := [.long a2.toInt64, .long (0 : Int64), .long (2 : Int64)]) (rest := []) C hX hS hl.1 (cm_in l a2.toInt64 (0 : Int64) (2 : Int64) rfl) (va_cwS 3 hts (lw_S q1974 q1975 q109 q1976) rfl rfl rfl (by decide +kernel) ⟨Nat.le_of_ble_eq_true rfl, Nat.le_of_ble_eq_true rfl⟩) rfl rfl (Nat.le_of_ble_eq_true rfl) dX3_unknown_18 (fun H locs hX hS => ?_)
    refine lv_if_eq (tgt := 33) hx hb dX3_unknown_21 (by decide) (fun c2 => ?_) (fun c2 => ?_)
    · replace hr := it c2 hr
      refine lv_iconst (v := -1) hx hb dX3_unknown_33 (by decide) ?_
      exact m_ri (C := C) hret hlk hX hS (Option.some.inj hr) dX3_unknown_34
    · replace hr := ie c2 hr
      refine lv_aload_n hx hb dX3_unknown_24 rfl (lv_at hl 0 rfl) ?_
      refine lv_iload_n hx hb dX3_unknown_25 rfl (lv_at hl 1 rfl) ?_
      refine lv_iload_n hx hb dX3_unknown_26 rfl (lv_at hl 2 rfl) ?_
      obtain ⟨x3, e3, hr⟩ := ob hr
      refine m_cvi (As := [.int a1, .int a2]) (rest := []) C hX hS hl.1 (cm_faultOf l G hG S a1 a2 e3) (cwV 2 hts (lw_V q2055 q2057 qs59 q109 q2058) rfl rfl rfl (by decide +kernel) ⟨Nat.le_of_ble_eq_true rfl, Nat.le_of_ble_eq_true rfl⟩) rfl rfl (Nat.le_of_ble_eq_true rfl) dX3_unknown_27 (fun H locs hX hS => ?_)
      refine lv_goto (tgt := 34) hx hb dX3_unknown_30 (by decide) ?_
      exact m_ri (C := C) hret hlk hX hS (Option.some.inj hr) dX3_unknown_34

def fm_takesOf_k81 (S : mS) (a1 : Int32) (x1 : Int32) (x2 : Int32) (x3 : Int32) (x4 : Int32) (x6 : Int32) (x7 : Int32) (x12 : Int32) : Option (Int32) :=
  (if x2 = (3 : Int32) then
  (fm_weatherOf S x1 (2 : Int32)).bind fun x23 =>
  (aI S 7 a1).bind fun x24 =>
  (if (x23 + ((2 : Int32) * x24)) ≤ (60 : Int32) then
  (dI x23 (10 : Int32)).bind fun x26 =>
  some (x7 + x26)
  else
  some (-5 : Int32))
  else
  (if x2 = (4 : Int32) then
  (fm_weatherOf S x1 (0 : Int32)).bind fun x19 =>
  (aI S 7 a1).bind fun x20 =>
  (if x19 ≤ ((100 : Int32) - ((10 : Int32) * x20)) then
  (dI x19 (40 : Int32)).bind fun x22 =>
  some ((((x3 + x4) + x6) + x12) + x22)
  else
  some (-5 : Int32))
  else
  (if x2 = 0 then
  some (x3 + x4)
  else
  (if x2 = (1 : Int32) then
  some x7
  else
  some (((x3 + x4) + x6) + x12)))))
def fm_takesOf_k58 (S : mS) (a1 : Int32) (x1 : Int32) (x2 : Int32) (x3 : Int32) (x4 : Int32) (x6 : Int32) (x7 : Int32) : Option (Int32) :=
  (fm_weatherOf S x1 (1 : Int32)).bind fun x11 =>
  (((if x11 ≤ 0 then
  some (0 : Int32)
  else
  some x6) : Option (Int32))).bind (fun x12 => fm_takesOf_k81 S a1 x1 x2 x3 x4 x6 x7 x12)
def fm_takesOf (S : mS) (a1 : Int32) (a2 : Int32) (a3 : Int32) : Option Int32 :=
  (dI a3 (4 : Int32)).bind fun x1 =>
  (aI S 5 a1).bind fun x2 =>
  (aI S 6 a1).bind fun x3 =>
  (dI ((9 : Int32) - a2) (3 : Int32)).bind fun x4 =>
  (aI S 7 a1).bind fun x5 =>
  (dI (x5 * ((10 : Int32) - a2)) (4 : Int32)).bind fun x6 =>
  (((if a3 < (48 : Int32) then
  some (x3 + x4)
  else
  some ((2 : Int32) * (x3 + x4))) : Option (Int32))).bind (fun x7 => fm_takesOf_k58 S a1 x1 x2 x3 x4 x6 x7)
set_option maxHeartbeats 4000000 in
set_option maxRecDepth 100000 in
theorem cm_takesOf (l : Launch) (G : mGh) (hG : mOk G) (S : mS) (a1 : Int32) (a2 : Int32) (a3 : Int32) {r : Int32} (hr : fm_takesOf S a1 a2 a3 = some r) : Met l yX3_takesOf (ws_ yX3_takesOf cX3_takesOf 11 (some .int)) ({ frames := 2, cells := 0, slots := 0, locals := 45 } : Room) (mPc G [.int a1, .int a2, .int a3] S) (mQi G r S) 0 0 (zA G) := by
  refine m_met cX3_takesOf (by decide) rfl hG (Nat.le_of_ble_eq_true rfl) (fun p e s m args below meth c C hret hlk ls hX hl => ?_)
  have hx := C.1.1
  have hb := C.1.2.1
  have hown := C.1.2.2.2.1
  have hts := C.1.2.2.2.2
  have hS : va_S (zA G) s.heap s.heap [] := va_S.rf
  have hl : lv_has ls 11 [(0, .ref (zh G)), (1, .int a1), (2, .int a2), (3, .int a3)] := hl
  unfold fm_takesOf at hr
  refine lv_iload_n hx hb dX3_takesOf_0 rfl (lv_at hl 3 rfl) ?_
  refine lv_iconst (v := 4) hx hb dX3_takesOf_1 (by decide) ?_
  obtain ⟨x1, e1, hr⟩ := ob hr
  refine m_id C e1 dX3_takesOf_2 ?_
  refine lv_istore (lv' := [(4, .int x1), (0, .ref (zh G)), (1, .int a1), (2, .int a2), (3, .int a3)]) hx hb dX3_takesOf_3 hl (by decide) rfl (fun ls hl => ?_)
  refine lv_aload_n hx hb dX3_takesOf_5 rfl (lv_at hl 1 rfl) ?_
  refine m_ga (k := 5) (d := 0) C q1703 rfl (by decide) hX dX3_takesOf_6 ?_
  refine lv_iload_n hx hb dX3_takesOf_9 rfl (lv_at hl 2 rfl) ?_
  obtain ⟨x2, e2, hr⟩ := ob hr
  refine m_ia (k := 5) C rfl hX e2 dX3_takesOf_10 ?_
  refine lv_istore (lv' := [(5, .int x2), (4, .int x1), (0, .ref (zh G)), (1, .int a1), (2, .int a2), (3, .int a3)]) hx hb dX3_takesOf_11 hl (by decide) rfl (fun ls hl => ?_)
  refine lv_aload_n hx hb dX3_takesOf_13 rfl (lv_at hl 2 rfl) ?_
  refine m_ga (k := 6) (d := 0) C q1704 rfl (by decide) hX dX3_takesOf_14 ?_
  refine lv_iload_n hx hb dX3_takesOf_17 rfl (lv_at hl 3 rfl) ?_
  obtain ⟨x3, e3, hr⟩ := ob hr
  refine m_ia (k := 6) C rfl hX e3 dX3_takesOf_18 ?_
  refine lv_bipush (v := 9) hx hb dX3_takesOf_19 (by decide) ?_
  refine lv_iload_n hx hb dX3_takesOf_21 rfl (lv_at hl 4 rfl) ?_
  refine lv_isub hx hb dX3_takesOf_22 ?_
  refine lv_iconst (v := 3) hx hb dX3_takesOf_23 (by decide) ?_
  obtain ⟨x4, e4, hr⟩ := ob hr
  refine m_id C e4 dX3_takesOf_24 ?_
  refine lv_iadd hx hb dX3_takesOf_25 ?_
  refine lv_istore (lv' := [(6, .int (x3 + x4)), (5, .int x2), (4, .int x1), (0, .ref (zh G)), (1, .int a1), (2, .int a2), (3, .int a3)]) hx hb dX3_takesOf_26 hl (by decide) rfl (fun ls hl => ?_)
  refine lv_aload_n hx hb dX3_takesOf_28 rfl (lv_at hl 3 rfl) ?_
  refine m_ga (k := 7) (d := 0) C q1705 rfl (by decide) hX dX3_takesOf_29 ?_
  refine lv_iload_n hx hb dX3_takesOf_32 rfl (lv_at hl 4 rfl) ?_
  obtain ⟨x5, e5, hr⟩ := ob hr
  refine m_ia (k := 7) C rfl hX e5 dX3_takesOf_33 ?_
  refine lv_bipush (v := 10) hx hb dX3_takesOf_34 (by decide) ?_
  refine lv_iload_n hx hb dX3_takesOf_36 rfl (lv_at hl 5 rfl) ?_
  refine lv_isub hx hb dX3_takesOf_37 ?_
  refine lv_imul hx hb dX3_takesOf_38 ?_
  refine lv_iconst (v := 4) hx hb dX3_takesOf_39 (by decide) ?_
  obtain ⟨x6, e6, hr⟩ := ob hr
  refine m_id C e6 dX3_takesOf_40 ?_
  refine lv_istore (lv' := [(7, .int x6), (6, .int (x3 + x4)), (5, .int x2), (4, .int x1), (0, .ref (zh G)), (1, .int a1), (2, .int a2), (3, .int a3)]) hx hb dX3_takesOf_41 hl (by decide) rfl (fun ls hl => ?_)
  refine lv_iload_n hx hb dX3_takesOf_43 rfl (lv_at hl 7 rfl) ?_
  refine lv_bipush (v := 48) hx hb dX3_takesOf_44 (by decide) ?_
  obtain ⟨x7, r7, hr⟩ := ob hr
  refine m_join (I := fun (t8 : Int32) H locs ls => x7 = t8 ∧ mX G S H ∧ va_S (zA G) s.heap H locs ∧ lv_has ls 11 [(0, .ref (zh G)), (1, .int a1), (4, .int x1), (5, .int x2), (6, .int (x3 + x4)), (7, .int x6)]) 58 (fun t8 => [.int t8]) (fun t8 H locs ls hi => ?_) (fun J7 => ?_)
  · obtain ⟨rfl, hX, hS, hl⟩ := hi
    unfold fm_takesOf_k58 at hr
    refine lv_istore (lv' := [(8, .int x7), (0, .ref (zh G)), (1, .int a1), (4, .int x1), (5, .int x2), (6, .int (x3 + x4)), (7, .int x6)]) hx hb dX3_takesOf_58 hl (by decide) rfl (fun ls hl => ?_)
    refine lv_iload hx hb dX3_takesOf_60 (lv_at hl 5 rfl) ?_
    refine lv_iload hx hb dX3_takesOf_62 (lv_at hl 6 rfl) ?_
    refine lv_iadd hx hb dX3_takesOf_64 ?_
    refine lv_aload_n hx hb dX3_takesOf_65 rfl (lv_at hl 1 rfl) ?_
    refine lv_iload hx hb dX3_takesOf_66 (lv_at hl 3 rfl) ?_
    refine lv_iconst (v := 1) hx hb dX3_takesOf_68 (by decide) ?_
    obtain ⟨x11, e11, hr⟩ := ob hr
    refine m_cvi (As := [.int x1, .int (1 : Int32)]) (rest := [.int ((x3 + x4) + x6)]) C hX hS hl.1 (cm_weatherOf l G hG S x1 (1 : Int32) e11) (cwV 2 hts (lw_V q2051 q2053 qs58 q109 q2054) rfl rfl rfl (by decide +kernel) ⟨Nat.le_of_ble_eq_true rfl, Nat.le_of_ble_eq_true rfl⟩) rfl rfl (Nat.le_of_ble_eq_true rfl) dX3_takesOf_69 (fun H locs hX hS => ?_)
    obtain ⟨x12, r12, hr⟩ := ob hr
    refine m_join (I := fun (t13 : Int32) H locs ls => x12 = t13 ∧ mX G S H ∧ va_S (zA G) s.heap H locs ∧ lv_has ls 11 [(0, .ref (zh G)), (1, .int a1), (4, .int x1), (5, .int x2), (6, .int (x3 + x4)), (8, .int x7)]) 81 (fun t13 => [.int t13, .int ((x3 + x4) + x6)]) (fun t13 H locs ls hi => ?_) (fun J12 => ?_)
    · obtain ⟨rfl, hX, hS, hl⟩ := hi
      unfold fm_takesOf_k81 at hr
      refine lv_iadd hx hb dX3_takesOf_81 ?_
      refine lv_istore (lv' := [(9, .int (((x3 + x4) + x6) + x12)), (0, .ref (zh G)), (1, .int a1), (4, .int x1), (5, .int x2), (6, .int (x3 + x4)), (8, .int x7)]) hx hb dX3_takesOf_82 hl (by decide) rfl (fun ls hl => ?_)
      refine lv_iload hx hb dX3_takesOf_84 (lv_at hl 4 rfl) ?_
      refine lv_iconst (v := 3) hx hb dX3_takesOf_86 (by decide) ?_
      refine lv_icmp_ne (tgt := 129) hx hb dX3_takesOf_87 (by decide) (fun c15 => ?_) (fun c15 => ?_)
      · replace hr := ie c15 hr
        refine lv_iload hx hb dX3_takesOf_129 (lv_at hl 4 rfl) ?_
        refine lv_iconst (v := 4) hx hb dX3_takesOf_131 (by decide) ?_
        refine lv_icmp_ne (tgt := 175) hx hb dX3_takesOf_132 (by decide) (fun c16 => ?_) (fun c16 => ?_)
        · replace hr := ie c16 hr
          refine lv_iload hx hb dX3_takesOf_175 (lv_at hl 4 rfl) ?_
          refine lv_if_ne (tgt := 185) hx hb dX3_takesOf_177 (by decide) (fun c17 => ?_) (fun c17 => ?_)
          · replace hr := ie c17 hr
            refine lv_iload hx hb dX3_takesOf_185 (lv_at hl 4 rfl) ?_
            refine lv_iconst (v := 1) hx hb dX3_takesOf_187 (by decide) ?_
            refine lv_icmp_ne (tgt := 196) hx hb dX3_takesOf_188 (by decide) (fun c18 => ?_) (fun c18 => ?_)
            · replace hr := ie c18 hr
              refine lv_iload hx hb dX3_takesOf_196 (lv_at hl 0 rfl) ?_
              exact m_ri (C := C) hret hlk hX hS (Option.some.inj hr) dX3_takesOf_198
            · replace hr := it c18 hr
              refine lv_iload hx hb dX3_takesOf_191 (lv_at hl 6 rfl) ?_
              refine lv_goto (tgt := 198) hx hb dX3_takesOf_193 (by decide) ?_
              exact m_ri (C := C) hret hlk hX hS (Option.some.inj hr) dX3_takesOf_198
          · replace hr := it c17 hr
            refine lv_iload hx hb dX3_takesOf_180 (lv_at hl 5 rfl) ?_
            refine lv_goto (tgt := 198) hx hb dX3_takesOf_182 (by decide) ?_
            exact m_ri (C := C) hret hlk hX hS (Option.some.inj hr) dX3_takesOf_198
        · replace hr := it c16 hr
          refine lv_aload_n hx hb dX3_takesOf_135 rfl (lv_at hl 1 rfl) ?_
          refine lv_iload hx hb dX3_takesOf_136 (lv_at hl 3 rfl) ?_
          refine lv_iconst (v := 0) hx hb dX3_takesOf_138 (by decide) ?_
          obtain ⟨x19, e19, hr⟩ := ob hr
          refine m_cvi (As := [.int x1, .int (0 : Int32)]) (rest := []) C hX hS hl.1 (cm_weatherOf l G hG S x1 (0 : Int32) e19) (cwV 2 hts (lw_V q2051 q2053 qs58 q109 q2054) rfl rfl rfl (by decide +kernel) ⟨Nat.le_of_ble_eq_true rfl, Nat.le_of_ble_eq_true rfl⟩) rfl rfl (Nat.le_of_ble_eq_true rfl) dX3_takesOf_139 (fun H locs hX hS => ?_)
          refine lv_istore (lv' := [(10, .int x19), (9, .int (((x3 + x4) + x6) + x12)), (0, .ref (zh G)), (1, .int a1), (4, .int x1), (5, .int x2), (6, .int (x3 + x4)), (8, .int x7)]) hx hb dX3_takesOf_142 hl (by decide) rfl (fun ls hl => ?_)
          refine lv_iload hx hb dX3_takesOf_144 (lv_at hl 0 rfl) ?_
          refine lv_bipush (v := 100) hx hb dX3_takesOf_146 (by decide) ?_
          refine lv_bipush (v := 10) hx hb dX3_takesOf_148 (by decide) ?_
          refine lv_aload_n hx hb dX3_takesOf_150 rfl (lv_at hl 2 rfl) ?_
          refine m_ga (k := 7) (d := 0) C q1705 rfl (by decide) hX dX3_takesOf_151 ?_
          refine lv_iload_n hx hb dX3_takesOf_154 rfl (lv_at hl 3 rfl) ?_
          obtain ⟨x20, e20, hr⟩ := ob hr
          refine m_ia (k := 7) C rfl hX e20 dX3_takesOf_155 ?_
          refine lv_imul hx hb dX3_takesOf_156 ?_
          refine lv_isub hx hb dX3_takesOf_157 ?_
          refine lv_icmp_le (tgt := 166) hx hb dX3_takesOf_158 (by decide) (fun c21 => ?_) (fun c21 => ?_)
          · replace hr := it c21 hr
            refine lv_iload hx hb dX3_takesOf_166 (lv_at hl 1 rfl) ?_
            refine lv_iload hx hb dX3_takesOf_168 (lv_at hl 0 rfl) ?_
            refine lv_bipush (v := 40) hx hb dX3_takesOf_170 (by decide) ?_
            obtain ⟨x22, e22, hr⟩ := ob hr
            refine m_id C e22 dX3_takesOf_172 ?_
            refine lv_iadd hx hb dX3_takesOf_173 ?_
            exact m_ri (C := C) hret hlk hX hS (Option.some.inj hr) dX3_takesOf_174
          · replace hr := ie c21 hr
            refine lv_bipush (v := -5) hx hb dX3_takesOf_161 (by decide) ?_
            refine lv_goto (tgt := 174) hx hb dX3_takesOf_163 (by decide) ?_
            exact m_ri (C := C) hret hlk hX hS (Option.some.inj hr) dX3_takesOf_174
      · replace hr := it c15 hr
        refine lv_aload_n hx hb dX3_takesOf_90 rfl (lv_at hl 1 rfl) ?_
        refine lv_iload hx hb dX3_takesOf_91 (lv_at hl 3 rfl) ?_
        refine lv_iconst (v := 2) hx hb dX3_takesOf_93 (by decide) ?_
        obtain ⟨x23, e23, hr⟩ := ob hr
        refine m_cvi (As := [.int x1, .int (2 : Int32)]) (rest := []) C hX hS hl.1 (cm_weatherOf l G hG S x1 (2 : Int32) e23) (cwV 2 hts (lw_V q2051 q2053 qs58 q109 q2054) rfl rfl rfl (by decide +kernel) ⟨Nat.le_of_ble_eq_true rfl, Nat.le_of_ble_eq_true rfl⟩) rfl rfl (Nat.le_of_ble_eq_true rfl) dX3_takesOf_94 (fun H locs hX hS => ?_)
        refine lv_istore (lv' := [(10, .int x23), (9, .int (((x3 + x4) + x6) + x12)), (0, .ref (zh G)), (1, .int a1), (4, .int x1), (5, .int x2), (6, .int (x3 + x4)), (8, .int x7)]) hx hb dX3_takesOf_97 hl (by decide) rfl (fun ls hl => ?_)
        refine lv_iload hx hb dX3_takesOf_99 (lv_at hl 0 rfl) ?_
        refine lv_iconst (v := 2) hx hb dX3_takesOf_101 (by decide) ?_
        refine lv_aload_n hx hb dX3_takesOf_102 rfl (lv_at hl 2 rfl) ?_
        refine m_ga (k := 7) (d := 0) C q1705 rfl (by decide) hX dX3_takesOf_103 ?_
        refine lv_iload_n hx hb dX3_takesOf_106 rfl (lv_at hl 3 rfl) ?_
        obtain ⟨x24, e24, hr⟩ := ob hr
        refine m_ia (k := 7) C rfl hX e24 dX3_takesOf_107 ?_
        refine lv_imul hx hb dX3_takesOf_108 ?_
        refine lv_iadd hx hb dX3_takesOf_109 ?_
        refine lv_bipush (v := 60) hx hb dX3_takesOf_110 (by decide) ?_
        refine lv_icmp_le (tgt := 120) hx hb dX3_takesOf_112 (by decide) (fun c25 => ?_) (fun c25 => ?_)
        · replace hr := it c25 hr
          refine lv_iload hx hb dX3_takesOf_120 (lv_at hl 7 rfl) ?_
          refine lv_iload hx hb dX3_takesOf_122 (lv_at hl 0 rfl) ?_
          refine lv_bipush (v := 10) hx hb dX3_takesOf_124 (by decide) ?_
          obtain ⟨x26, e26, hr⟩ := ob hr
          refine m_id C e26 dX3_takesOf_126 ?_
          refine lv_iadd hx hb dX3_takesOf_127 ?_
          exact m_ri (C := C) hret hlk hX hS (Option.some.inj hr) dX3_takesOf_128
        · replace hr := ie c25 hr
          refine lv_bipush (v := -5) hx hb dX3_takesOf_115 (by decide) ?_
          refine lv_goto (tgt := 128) hx hb dX3_takesOf_117 (by decide) ?_
          exact m_ri (C := C) hret hlk hX hS (Option.some.inj hr) dX3_takesOf_128
    · refine lv_if_le (tgt := 80) hx hb dX3_takesOf_72 (by decide) (fun c14 => ?_) (fun c14 => ?_)
      · replace r12 := it c14 r12
        refine lv_iconst (v := 0) hx hb dX3_takesOf_80 (by decide) ?_
        exact J12 _ _ _ ls ⟨(Option.some.inj r12).symm, hX, hS, lv_sub hl [1, 2, 3, 4, 5, 0] rfl⟩
      · replace r12 := ie c14 r12
        refine lv_iload hx hb dX3_takesOf_75 (lv_at hl 6 rfl) ?_
        refine lv_goto (tgt := 81) hx hb dX3_takesOf_77 (by decide) ?_
        exact J12 _ _ _ ls ⟨(Option.some.inj r12).symm, hX, hS, lv_sub hl [1, 2, 3, 4, 5, 0] rfl⟩
  · refine lv_icmp_lt (tgt := 56) hx hb dX3_takesOf_46 (by decide) (fun c9 => ?_) (fun c9 => ?_)
    · replace r7 := it c9 r7
      refine lv_iload hx hb dX3_takesOf_56 (lv_at hl 1 rfl) ?_
      exact J7 _ _ _ ls ⟨(Option.some.inj r7).symm, hX, hS, lv_sub hl [4, 5, 3, 2, 1, 0] rfl⟩
    · replace r7 := ie c9 r7
      refine lv_iconst (v := 2) hx hb dX3_takesOf_49 (by decide) ?_
      refine lv_iload hx hb dX3_takesOf_50 (lv_at hl 1 rfl) ?_
      refine lv_imul hx hb dX3_takesOf_52 ?_
      refine lv_goto (tgt := 58) hx hb dX3_takesOf_53 (by decide) ?_
      obtain ⟨g10, hg10⟩ : ∃ g, g = ((2 : Int32) * (x3 + x4)) := ⟨_, rfl⟩
      rw [← hg10] at ⊢ r7
      exact J7 _ _ _ ls ⟨(Option.some.inj r7).symm, hX, hS, lv_sub hl [4, 5, 3, 2, 1, 0] rfl⟩

def fm_takes (S : mS) (a1 : Int32) (a2 : Int32) (a3 : Int32) : Option Int32 :=
  (if (fm_isStep S a1) = 0 then
  some (-1 : Int32)
  else
  (if (fm_in a2.toInt64 (0 : Int64) (9 : Int64)) = 0 then
  some (-1 : Int32)
  else
  (if (fm_in a3.toInt64 (0 : Int64) (95 : Int64)) = 0 then
  some (-1 : Int32)
  else
  (fm_takesOf S a1 a2 a3).bind fun x4 =>
  some x4)))
set_option maxHeartbeats 4000000 in
set_option maxRecDepth 100000 in
theorem cm_takes (l : Launch) (G : mGh) (hG : mOk G) (S : mS) (a1 : Int32) (a2 : Int32) (a3 : Int32) {r : Int32} (hr : fm_takes S a1 a2 a3 = some r) : Met l yX3_takes (ws_ yX3_takes cX3_takes 4 (some .int)) ({ frames := 3, cells := 0, slots := 0, locals := 75 } : Room) (mPc G [.int a1, .int a2, .int a3] S) (mQi G r S) 0 0 (zA G) := by
  refine m_met cX3_takes (by decide) rfl hG (Nat.le_of_ble_eq_true rfl) (fun p e s m args below meth c C hret hlk ls hX hl => ?_)
  have hx := C.1.1
  have hb := C.1.2.1
  have hown := C.1.2.2.2.1
  have hts := C.1.2.2.2.2
  have hS : va_S (zA G) s.heap s.heap [] := va_S.rf
  have hl : lv_has ls 4 [(0, .ref (zh G)), (1, .int a1), (2, .int a2), (3, .int a3)] := hl
  unfold fm_takes at hr
  refine lv_aload_n hx hb dX3_takes_0 rfl (lv_at hl 0 rfl) ?_
  refine lv_iload_n hx hb dX3_takes_1 rfl (lv_at hl 1 rfl) ?_
  refine m_cvi (As := [.int a1]) (rest := []) C hX hS hl.1 (cm_isStep l G hG S a1 rfl) (cwV 1 hts (lw_V q1991 q1993 qs51 q109 q1994) rfl rfl rfl (by decide +kernel) ⟨Nat.le_of_ble_eq_true rfl, Nat.le_of_ble_eq_true rfl⟩) rfl rfl (Nat.le_of_ble_eq_true rfl) dX3_takes_2 (fun H locs hX hS => ?_)
  refine lv_if_eq (tgt := 42) hx hb dX3_takes_5 (by decide) (fun c1 => ?_) (fun c1 => ?_)
  · replace hr := it c1 hr
    refine lv_iconst (v := -1) hx hb dX3_takes_42 (by decide) ?_
    exact m_ri (C := C) hret hlk hX hS (Option.some.inj hr) dX3_takes_43
  · replace hr := ie c1 hr
    refine lv_iload_n hx hb dX3_takes_8 rfl (lv_at hl 2 rfl) ?_
    refine lv_i2l (v := a2.toInt64) hx hb dX3_takes_9 rfl ?_
    refine lv_lconst (v := 0) hx hb dX3_takes_10 (by decide) ?_
    refine lv_ldc2 hx hb hown (hts _ q1973) dX3_takes_11 ?_
    refine m_csi (As := [.long a2.toInt64, .long (0 : Int64), .long (9 : Int64)]) (rest := []) C hX hS hl.1 (cm_in l a2.toInt64 (0 : Int64) (9 : Int64) rfl) (va_cwS 3 hts (lw_S q1974 q1975 q109 q1976) rfl rfl rfl (by decide +kernel) ⟨Nat.le_of_ble_eq_true rfl, Nat.le_of_ble_eq_true rfl⟩) rfl rfl (Nat.le_of_ble_eq_true rfl) dX3_takes_14 (fun H locs hX hS => ?_)
    refine lv_if_eq (tgt := 42) hx hb dX3_takes_17 (by decide) (fun c2 => ?_) (fun c2 => ?_)
    · replace hr := it c2 hr
      refine lv_iconst (v := -1) hx hb dX3_takes_42 (by decide) ?_
      exact m_ri (C := C) hret hlk hX hS (Option.some.inj hr) dX3_takes_43
    · replace hr := ie c2 hr
      refine lv_iload_n hx hb dX3_takes_20 rfl (lv_at hl 3 rfl) ?_
      refine lv_i2l (v := a3.toInt64) hx hb dX3_takes_21 rfl ?_
      refine lv_lconst (v := 0) hx hb dX3_takes_22 (by decide) ?_
      refine lv_ldc2 hx hb hown (hts _ q2070) dX3_takes_23 ?_
      refine m_csi (As := [.long a3.toInt64, .long (0 : Int64), .long (95 : Int64)]) (rest := []) C hX hS hl.1 (cm_in l a3.toInt64 (0 : Int64) (95 : Int64) rfl) (va_cwS 3 hts (lw_S q1974 q1975 q109 q1976) rfl rfl rfl (by decide +kernel) ⟨Nat.le_of_ble_eq_true rfl, Nat.le_of_ble_eq_true rfl⟩) rfl rfl (Nat.le_of_ble_eq_true rfl) dX3_takes_26 (fun H locs hX hS => ?_)
      refine lv_if_eq (tgt := 42) hx hb dX3_takes_29 (by decide) (fun c3 => ?_) (fun c3 => ?_)
      · replace hr := it c3 hr
        refine lv_iconst (v := -1) hx hb dX3_takes_42 (by decide) ?_
        exact m_ri (C := C) hret hlk hX hS (Option.some.inj hr) dX3_takes_43
      · replace hr := ie c3 hr
        refine lv_aload_n hx hb dX3_takes_32 rfl (lv_at hl 0 rfl) ?_
        refine lv_iload_n hx hb dX3_takes_33 rfl (lv_at hl 1 rfl) ?_
        refine lv_iload_n hx hb dX3_takes_34 rfl (lv_at hl 2 rfl) ?_
        refine lv_iload_n hx hb dX3_takes_35 rfl (lv_at hl 3 rfl) ?_
        obtain ⟨x4, e4, hr⟩ := ob hr
        refine m_cvi (As := [.int a1, .int a2, .int a3]) (rest := []) C hX hS hl.1 (cm_takesOf l G hG S a1 a2 a3 e4) (cwV 3 hts (lw_V q2071 q2073 qs60 q109 q2074) rfl rfl rfl (by decide +kernel) ⟨Nat.le_of_ble_eq_true rfl, Nat.le_of_ble_eq_true rfl⟩) rfl rfl (Nat.le_of_ble_eq_true rfl) dX3_takes_36 (fun H locs hX hS => ?_)
        refine lv_goto (tgt := 43) hx hb dX3_takes_39 (by decide) ?_
        exact m_ri (C := C) hret hlk hX hS (Option.some.inj hr) dX3_takes_43

def fm_hourOf_l6 (S : mS) (a1 : Int32) (a2 : Int32) (t1 : Int32 × Int32) : Option ((Int32 × Int32) ⊕ ((Int32) ⊕ (Int32))) :=
  (aI S 10 a1).bind fun x6 =>
  (if x6 ≤ t1.2 then
  some (.inr (.inr t1.1))
  else
  (((if t1.1 < (96 : Int32) then
  (fm_stepAt S a1 t1.2).bind fun x11 =>
  (fm_takesOf S x11 a2 t1.1).bind fun x12 =>
  some x12
  else
  some (-5 : Int32)) : Option (Int32))).bind (fun x8 =>
  (if x8 = (-5 : Int32) then
  some (.inr (.inl t1.2))
  else
  some (.inl ((t1.1 + x8), (t1.2 + (1 : Int32)))))))
def fm_hourOf (S : mS) (a1 : Int32) (a2 : Int32) (a3 : Int32) : Option Int32 :=
  (loopO (fm_hourOf_l6 S a1 a2) 1000000 (a3, (0 : Int32))).bind (sumK (fun t4 =>
  some ((-100 : Int32) - t4)) (fun t5 =>
  some t5))
set_option maxHeartbeats 4000000 in
set_option maxRecDepth 100000 in
theorem cm_hourOf (l : Launch) (G : mGh) (hG : mOk G) (S : mS) (a1 : Int32) (a2 : Int32) (a3 : Int32) {r : Int32} (hr : fm_hourOf S a1 a2 a3 = some r) : Met l yX3_hourOf (ws_ yX3_hourOf cX3_hourOf 7 (some .int)) ({ frames := 3, cells := 0, slots := 0, locals := 75 } : Room) (mPc G [.int a1, .int a2, .int a3] S) (mQi G r S) 0 0 (zA G) := by
  refine m_met cX3_hourOf (by decide) rfl hG (Nat.le_of_ble_eq_true rfl) (fun p e s m args below meth c C hret hlk ls hX hl => ?_)
  have hx := C.1.1
  have hb := C.1.2.1
  have hown := C.1.2.2.2.1
  have hts := C.1.2.2.2.2
  have hS : va_S (zA G) s.heap s.heap [] := va_S.rf
  have hl : lv_has ls 7 [(0, .ref (zh G)), (1, .int a1), (2, .int a2), (3, .int a3)] := hl
  unfold fm_hourOf at hr
  refine lv_iload_n hx hb dX3_hourOf_0 rfl (lv_at hl 3 rfl) ?_
  refine lv_istore (lv' := [(4, .int a3), (0, .ref (zh G)), (1, .int a1), (2, .int a2), (3, .int a3)]) hx hb dX3_hourOf_1 hl (by decide) rfl (fun ls hl => ?_)
  refine lv_iconst (v := 0) hx hb dX3_hourOf_3 (by decide) ?_
  refine lv_istore (lv' := [(5, .int (0 : Int32)), (4, .int a3), (0, .ref (zh G)), (1, .int a1), (2, .int a2), (3, .int a3)]) hx hb dX3_hourOf_4 hl (by decide) rfl (fun ls hl => ?_)
  obtain ⟨z3, e3, hr⟩ := ob hr
  refine m_join (I := fun (t4 : Int32) H locs ls => z3 = .inl t4 ∧ mX G S H ∧ va_S (zA G) s.heap H locs ∧ lv_has ls 7 [(5, .int t4)]) 52 (fun _ => []) (fun t4 H locs ls hi => ?_) (fun J1_52 => ?_)
  · obtain ⟨rfl, hX, hS, hl⟩ := hi
    replace hr := sk_l hr
    refine lv_bipush (v := -100) hx hb dX3_hourOf_52 (by decide) ?_
    refine lv_iload hx hb dX3_hourOf_54 (lv_at hl 0 rfl) ?_
    refine lv_isub hx hb dX3_hourOf_56 ?_
    exact m_ri (C := C) hret hlk hX hS (Option.some.inj hr) dX3_hourOf_57
  refine m_join (I := fun (t5 : Int32) H locs ls => z3 = .inr t5 ∧ mX G S H ∧ va_S (zA G) s.heap H locs ∧ lv_has ls 7 [(4, .int t5)]) 71 (fun _ => []) (fun t5 H locs ls hi => ?_) (fun J1_71 => ?_)
  · obtain ⟨rfl, hX, hS, hl⟩ := hi
    replace hr := sk_r hr
    refine lv_iload hx hb dX3_hourOf_71 (lv_at hl 0 rfl) ?_
    exact m_ri (C := C) hret hlk hX hS (Option.some.inj hr) dX3_hourOf_73
  refine m_loop e3 (fun (t1 : Int32 × Int32) H locs ls => mX G S H ∧ va_S (zA G) s.heap H locs ∧ lv_has ls 7 [(0, .ref (zh G)), (1, .int a1), (2, .int a2), (4, .int t1.1), (5, .int t1.2)]) 6 ⟨hX, hS, lv_sub hl [2, 3, 4, 1, 0] rfl⟩ (fun t1 y1 b1 w1 k1 H locs ls hi => ?_)
  obtain ⟨hX, hS, hl⟩ := hi
  unfold fm_hourOf_l6 at b1
  refine lv_iload hx hb dX3_hourOf_6 (lv_at hl 4 rfl) ?_
  refine lv_aload_n hx hb dX3_hourOf_8 rfl (lv_at hl 0 rfl) ?_
  refine m_ga (k := 10) (d := 0) C q1708 rfl (by decide) hX dX3_hourOf_9 ?_
  refine lv_iload_n hx hb dX3_hourOf_12 rfl (lv_at hl 1 rfl) ?_
  obtain ⟨x6, e6, b1⟩ := ob b1
  refine m_ia (k := 10) C rfl hX e6 dX3_hourOf_13 ?_
  refine lv_icmp_ge (tgt := 71) hx hb dX3_hourOf_14 (by decide) (fun c7 => ?_) (fun c7 => ?_)
  · replace b1 := it c7 b1
    replace b1 := lx b1 w1
    exact J1_71 _ _ _ ls ⟨b1.symm, hX, hS, lv_sub hl [3] rfl⟩
  · replace b1 := ie c7 b1
    refine lv_iload hx hb dX3_hourOf_17 (lv_at hl 3 rfl) ?_
    refine lv_bipush (v := 96) hx hb dX3_hourOf_19 (by decide) ?_
    obtain ⟨x8, r8, b1⟩ := ob b1
    refine m_join (I := fun (t9 : Int32) H locs ls => x8 = t9 ∧ mX G S H ∧ va_S (zA G) s.heap H locs ∧ lv_has ls 7 [(0, .ref (zh G)), (1, .int a1), (2, .int a2), (4, .int t1.1), (5, .int t1.2)]) 43 (fun t9 => [.int t9]) (fun t9 H locs ls hi => ?_) (fun J8 => ?_)
    · obtain ⟨rfl, hX, hS, hl⟩ := hi
      refine lv_istore (lv' := [(6, .int x8), (0, .ref (zh G)), (1, .int a1), (2, .int a2), (4, .int t1.1), (5, .int t1.2)]) hx hb dX3_hourOf_43 hl (by decide) rfl (fun ls hl => ?_)
      refine lv_iload hx hb dX3_hourOf_45 (lv_at hl 0 rfl) ?_
      refine lv_bipush (v := -5) hx hb dX3_hourOf_47 (by decide) ?_
      refine lv_icmp_ne (tgt := 58) hx hb dX3_hourOf_49 (by decide) (fun c13 => ?_) (fun c13 => ?_)
      · replace b1 := ie c13 b1
        refine lv_iload hx hb dX3_hourOf_58 (lv_at hl 4 rfl) ?_
        refine lv_iload hx hb dX3_hourOf_60 (lv_at hl 0 rfl) ?_
        refine lv_iadd hx hb dX3_hourOf_62 ?_
        refine lv_istore (lv' := [(4, .int (t1.1 + x8)), (6, .int x8), (0, .ref (zh G)), (1, .int a1), (2, .int a2), (5, .int t1.2)]) hx hb dX3_hourOf_63 hl (by decide) rfl (fun ls hl => ?_)
        refine lv_iinc (v := (t1.2 + (1 : Int32))) (k := 5) (lv' := [(5, .int (t1.2 + (1 : Int32))), (4, .int (t1.1 + x8)), (6, .int x8), (0, .ref (zh G)), (1, .int a1), (2, .int a2)]) hx hb dX3_hourOf_65 hl rfl rfl (by decide) rfl (fun ls hl => ?_)
        refine lv_goto (tgt := 6) hx hb dX3_hourOf_68 (by decide) ?_
        obtain ⟨g14, hg14⟩ : ∃ g, g = (t1.1 + x8) := ⟨_, rfl⟩
        rw [← hg14] at hl b1
        obtain ⟨g15, hg15⟩ : ∃ g, g = (t1.2 + (1 : Int32)) := ⟨_, rfl⟩
        rw [← hg15] at hl b1
        exact k1 _ (Option.some.inj b1).symm _ _ ls ⟨hX, hS, lv_sub hl [3, 4, 5, 1, 0] rfl⟩
      · replace b1 := it c13 b1
        replace b1 := lx b1 w1
        exact J1_52 _ _ _ ls ⟨b1.symm, hX, hS, lv_sub hl [5] rfl⟩
    · refine lv_icmp_lt (tgt := 29) hx hb dX3_hourOf_21 (by decide) (fun c10 => ?_) (fun c10 => ?_)
      · replace r8 := it c10 r8
        refine lv_aload_n hx hb dX3_hourOf_29 rfl (lv_at hl 0 rfl) ?_
        refine lv_aload_n hx hb dX3_hourOf_30 rfl (lv_at hl 0 rfl) ?_
        refine lv_iload_n hx hb dX3_hourOf_31 rfl (lv_at hl 1 rfl) ?_
        refine lv_iload hx hb dX3_hourOf_32 (lv_at hl 4 rfl) ?_
        obtain ⟨x11, e11, r8⟩ := ob r8
        refine m_cvi (As := [.int a1, .int t1.2]) (rest := [.ref (zh G)]) C hX hS hl.1 (cm_stepAt l G hG S a1 t1.2 e11) (cwV 2 hts (lw_V q2011 q2013 qs54 q109 q2014) rfl rfl rfl (by decide +kernel) ⟨Nat.le_of_ble_eq_true rfl, Nat.le_of_ble_eq_true rfl⟩) rfl rfl (Nat.le_of_ble_eq_true rfl) dX3_hourOf_34 (fun H locs hX hS => ?_)
        refine lv_iload_n hx hb dX3_hourOf_37 rfl (lv_at hl 2 rfl) ?_
        refine lv_iload hx hb dX3_hourOf_38 (lv_at hl 3 rfl) ?_
        obtain ⟨x12, e12, r8⟩ := ob r8
        refine m_cvi (As := [.int x11, .int a2, .int t1.1]) (rest := []) C hX hS hl.1 (cm_takesOf l G hG S x11 a2 t1.1 e12) (cwV 3 hts (lw_V q2071 q2073 qs60 q109 q2074) rfl rfl rfl (by decide +kernel) ⟨Nat.le_of_ble_eq_true rfl, Nat.le_of_ble_eq_true rfl⟩) rfl rfl (Nat.le_of_ble_eq_true rfl) dX3_hourOf_40 (fun H locs hX hS => ?_)
        exact J8 _ _ _ ls ⟨(Option.some.inj r8).symm, hX, hS, hl⟩
      · replace r8 := ie c10 r8
        refine lv_bipush (v := -5) hx hb dX3_hourOf_24 (by decide) ?_
        refine lv_goto (tgt := 43) hx hb dX3_hourOf_26 (by decide) ?_
        exact J8 _ _ _ ls ⟨(Option.some.inj r8).symm, hX, hS, hl⟩

def fm_hour (S : mS) (a1 : Int32) (a2 : Int32) (a3 : Int32) : Option Int32 :=
  (if (fm_isRoute S a1) = 0 then
  some (-1 : Int32)
  else
  (if (fm_in a2.toInt64 (0 : Int64) (9 : Int64)) = 0 then
  some (-1 : Int32)
  else
  (if (fm_in a3.toInt64 (0 : Int64) (95 : Int64)) = 0 then
  some (-1 : Int32)
  else
  (fm_hourOf S a1 a2 a3).bind fun x4 =>
  some x4)))
set_option maxHeartbeats 4000000 in
set_option maxRecDepth 100000 in
theorem cm_hour (l : Launch) (G : mGh) (hG : mOk G) (S : mS) (a1 : Int32) (a2 : Int32) (a3 : Int32) {r : Int32} (hr : fm_hour S a1 a2 a3 = some r) : Met l yX3_hour (ws_ yX3_hour cX3_hour 4 (some .int)) ({ frames := 4, cells := 0, slots := 0, locals := 101 } : Room) (mPc G [.int a1, .int a2, .int a3] S) (mQi G r S) 0 0 (zA G) := by
  refine m_met cX3_hour (by decide) rfl hG (Nat.le_of_ble_eq_true rfl) (fun p e s m args below meth c C hret hlk ls hX hl => ?_)
  have hx := C.1.1
  have hb := C.1.2.1
  have hown := C.1.2.2.2.1
  have hts := C.1.2.2.2.2
  have hS : va_S (zA G) s.heap s.heap [] := va_S.rf
  have hl : lv_has ls 4 [(0, .ref (zh G)), (1, .int a1), (2, .int a2), (3, .int a3)] := hl
  unfold fm_hour at hr
  refine lv_aload_n hx hb dX3_hour_0 rfl (lv_at hl 0 rfl) ?_
  refine lv_iload_n hx hb dX3_hour_1 rfl (lv_at hl 1 rfl) ?_
  refine m_cvi (As := [.int a1]) (rest := []) C hX hS hl.1 (cm_isRoute l G hG S a1 rfl) (cwV 1 hts (lw_V q2003 q2005 qs52 q109 q2006) rfl rfl rfl (by decide +kernel) ⟨Nat.le_of_ble_eq_true rfl, Nat.le_of_ble_eq_true rfl⟩) rfl rfl (Nat.le_of_ble_eq_true rfl) dX3_hour_2 (fun H locs hX hS => ?_)
  refine lv_if_eq (tgt := 42) hx hb dX3_hour_5 (by decide) (fun c1 => ?_) (fun c1 => ?_)
  · replace hr := it c1 hr
    refine lv_iconst (v := -1) hx hb dX3_hour_42 (by decide) ?_
    exact m_ri (C := C) hret hlk hX hS (Option.some.inj hr) dX3_hour_43
  · replace hr := ie c1 hr
    refine lv_iload_n hx hb dX3_hour_8 rfl (lv_at hl 2 rfl) ?_
    refine lv_i2l (v := a2.toInt64) hx hb dX3_hour_9 rfl ?_
    refine lv_lconst (v := 0) hx hb dX3_hour_10 (by decide) ?_
    refine lv_ldc2 hx hb hown (hts _ q1973) dX3_hour_11 ?_
    refine m_csi (As := [.long a2.toInt64, .long (0 : Int64), .long (9 : Int64)]) (rest := []) C hX hS hl.1 (cm_in l a2.toInt64 (0 : Int64) (9 : Int64) rfl) (va_cwS 3 hts (lw_S q1974 q1975 q109 q1976) rfl rfl rfl (by decide +kernel) ⟨Nat.le_of_ble_eq_true rfl, Nat.le_of_ble_eq_true rfl⟩) rfl rfl (Nat.le_of_ble_eq_true rfl) dX3_hour_14 (fun H locs hX hS => ?_)
    refine lv_if_eq (tgt := 42) hx hb dX3_hour_17 (by decide) (fun c2 => ?_) (fun c2 => ?_)
    · replace hr := it c2 hr
      refine lv_iconst (v := -1) hx hb dX3_hour_42 (by decide) ?_
      exact m_ri (C := C) hret hlk hX hS (Option.some.inj hr) dX3_hour_43
    · replace hr := ie c2 hr
      refine lv_iload_n hx hb dX3_hour_20 rfl (lv_at hl 3 rfl) ?_
      refine lv_i2l (v := a3.toInt64) hx hb dX3_hour_21 rfl ?_
      refine lv_lconst (v := 0) hx hb dX3_hour_22 (by decide) ?_
      refine lv_ldc2 hx hb hown (hts _ q2070) dX3_hour_23 ?_
      refine m_csi (As := [.long a3.toInt64, .long (0 : Int64), .long (95 : Int64)]) (rest := []) C hX hS hl.1 (cm_in l a3.toInt64 (0 : Int64) (95 : Int64) rfl) (va_cwS 3 hts (lw_S q1974 q1975 q109 q1976) rfl rfl rfl (by decide +kernel) ⟨Nat.le_of_ble_eq_true rfl, Nat.le_of_ble_eq_true rfl⟩) rfl rfl (Nat.le_of_ble_eq_true rfl) dX3_hour_26 (fun H locs hX hS => ?_)
      refine lv_if_eq (tgt := 42) hx hb dX3_hour_29 (by decide) (fun c3 => ?_) (fun c3 => ?_)
      · replace hr := it c3 hr
        refine lv_iconst (v := -1) hx hb dX3_hour_42 (by decide) ?_
        exact m_ri (C := C) hret hlk hX hS (Option.some.inj hr) dX3_hour_43
      · replace hr := ie c3 hr
        refine lv_aload_n hx hb dX3_hour_32 rfl (lv_at hl 0 rfl) ?_
        refine lv_iload_n hx hb dX3_hour_33 rfl (lv_at hl 1 rfl) ?_
        refine lv_iload_n hx hb dX3_hour_34 rfl (lv_at hl 2 rfl) ?_
        refine lv_iload_n hx hb dX3_hour_35 rfl (lv_at hl 3 rfl) ?_
        obtain ⟨x4, e4, hr⟩ := ob hr
        refine m_cvi (As := [.int a1, .int a2, .int a3]) (rest := []) C hX hS hl.1 (cm_hourOf l G hG S a1 a2 a3 e4) (cwV 3 hts (lw_V q2079 q2081 qs61 q109 q2082) rfl rfl rfl (by decide +kernel) ⟨Nat.le_of_ble_eq_true rfl, Nat.le_of_ble_eq_true rfl⟩) rfl rfl (Nat.le_of_ble_eq_true rfl) dX3_hour_36 (fun H locs hX hS => ?_)
        refine lv_goto (tgt := 43) hx hb dX3_hour_39 (by decide) ?_
        exact m_ri (C := C) hret hlk hX hS (Option.some.inj hr) dX3_hour_43

def fm_late_l41 (S : mS) (a1 : Int32) (a2 : Int32) (a3 : Int32) (t4 : Int32 × Int32) : Option ((Int32 × Int32) ⊕ (Int32)) :=
  (if (96 : Int32) ≤ t4.2 then
  some (.inr t4.1)
  else
  (fm_hourOf S a1 a2 t4.2).bind fun x8 =>
  (((if (fm_in x8.toInt64 (0 : Int64) a3.toInt64) = 0 then
  some t4.1
  else
  some t4.2) : Option (Int32))).bind (fun x9 =>
  some (.inl (x9, (t4.2 + (1 : Int32))))))
def fm_late (S : mS) (a1 : Int32) (a2 : Int32) (a3 : Int32) : Option Int32 :=
  (if (fm_isRoute S a1) = 0 then
  some (-1 : Int32)
  else
  (if (fm_in a2.toInt64 (0 : Int64) (9 : Int64)) = 0 then
  some (-1 : Int32)
  else
  (if (fm_in a3.toInt64 (0 : Int64) (95 : Int64)) = 0 then
  some (-1 : Int32)
  else
  (loopO (fm_late_l41 S a1 a2 a3) 1000000 ((-4 : Int32), (0 : Int32))).bind (fun z6 =>
  some z6))))
set_option maxHeartbeats 4000000 in
set_option maxRecDepth 100000 in
theorem cm_late (l : Launch) (G : mGh) (hG : mOk G) (S : mS) (a1 : Int32) (a2 : Int32) (a3 : Int32) {r : Int32} (hr : fm_late S a1 a2 a3 = some r) : Met l yX3_late (ws_ yX3_late cX3_late 6 (some .int)) ({ frames := 4, cells := 0, slots := 0, locals := 101 } : Room) (mPc G [.int a1, .int a2, .int a3] S) (mQi G r S) 0 0 (zA G) := by
  refine m_met cX3_late (by decide) rfl hG (Nat.le_of_ble_eq_true rfl) (fun p e s m args below meth c C hret hlk ls hX hl => ?_)
  have hx := C.1.1
  have hb := C.1.2.1
  have hown := C.1.2.2.2.1
  have hts := C.1.2.2.2.2
  have hS : va_S (zA G) s.heap s.heap [] := va_S.rf
  have hl : lv_has ls 6 [(0, .ref (zh G)), (1, .int a1), (2, .int a2), (3, .int a3)] := hl
  unfold fm_late at hr
  refine lv_aload_n hx hb dX3_late_0 rfl (lv_at hl 0 rfl) ?_
  refine lv_iload_n hx hb dX3_late_1 rfl (lv_at hl 1 rfl) ?_
  refine m_cvi (As := [.int a1]) (rest := []) C hX hS hl.1 (cm_isRoute l G hG S a1 rfl) (cwV 1 hts (lw_V q2003 q2005 qs52 q109 q2006) rfl rfl rfl (by decide +kernel) ⟨Nat.le_of_ble_eq_true rfl, Nat.le_of_ble_eq_true rfl⟩) rfl rfl (Nat.le_of_ble_eq_true rfl) dX3_late_2 (fun H locs hX hS => ?_)
  refine lv_if_eq (tgt := 32) hx hb dX3_late_5 (by decide) (fun c1 => ?_) (fun c1 => ?_)
  · replace hr := it c1 hr
    refine lv_iconst (v := -1) hx hb dX3_late_32 (by decide) ?_
    exact m_ri (C := C) hret hlk hX hS (Option.some.inj hr) dX3_late_33
  · replace hr := ie c1 hr
    refine lv_iload_n hx hb dX3_late_8 rfl (lv_at hl 2 rfl) ?_
    refine lv_i2l (v := a2.toInt64) hx hb dX3_late_9 rfl ?_
    refine lv_lconst (v := 0) hx hb dX3_late_10 (by decide) ?_
    refine lv_ldc2 hx hb hown (hts _ q1973) dX3_late_11 ?_
    refine m_csi (As := [.long a2.toInt64, .long (0 : Int64), .long (9 : Int64)]) (rest := []) C hX hS hl.1 (cm_in l a2.toInt64 (0 : Int64) (9 : Int64) rfl) (va_cwS 3 hts (lw_S q1974 q1975 q109 q1976) rfl rfl rfl (by decide +kernel) ⟨Nat.le_of_ble_eq_true rfl, Nat.le_of_ble_eq_true rfl⟩) rfl rfl (Nat.le_of_ble_eq_true rfl) dX3_late_14 (fun H locs hX hS => ?_)
    refine lv_if_eq (tgt := 32) hx hb dX3_late_17 (by decide) (fun c2 => ?_) (fun c2 => ?_)
    · replace hr := it c2 hr
      refine lv_iconst (v := -1) hx hb dX3_late_32 (by decide) ?_
      exact m_ri (C := C) hret hlk hX hS (Option.some.inj hr) dX3_late_33
    · replace hr := ie c2 hr
      refine lv_iload_n hx hb dX3_late_20 rfl (lv_at hl 3 rfl) ?_
      refine lv_i2l (v := a3.toInt64) hx hb dX3_late_21 rfl ?_
      refine lv_lconst (v := 0) hx hb dX3_late_22 (by decide) ?_
      refine lv_ldc2 hx hb hown (hts _ q2070) dX3_late_23 ?_
      refine m_csi (As := [.long a3.toInt64, .long (0 : Int64), .long (95 : Int64)]) (rest := []) C hX hS hl.1 (cm_in l a3.toInt64 (0 : Int64) (95 : Int64) rfl) (va_cwS 3 hts (lw_S q1974 q1975 q109 q1976) rfl rfl rfl (by decide +kernel) ⟨Nat.le_of_ble_eq_true rfl, Nat.le_of_ble_eq_true rfl⟩) rfl rfl (Nat.le_of_ble_eq_true rfl) dX3_late_26 (fun H locs hX hS => ?_)
      refine lv_if_ne (tgt := 34) hx hb dX3_late_29 (by decide) (fun c3 => ?_) (fun c3 => ?_)
      · replace hr := ie c3 hr
        refine lv_bipush (v := -4) hx hb dX3_late_34 (by decide) ?_
        refine lv_istore (lv' := [(4, .int (-4 : Int32)), (0, .ref (zh G)), (1, .int a1), (2, .int a2), (3, .int a3)]) hx hb dX3_late_36 hl (by decide) rfl (fun ls hl => ?_)
        refine lv_iconst (v := 0) hx hb dX3_late_38 (by decide) ?_
        refine lv_istore (lv' := [(5, .int (0 : Int32)), (4, .int (-4 : Int32)), (0, .ref (zh G)), (1, .int a1), (2, .int a2), (3, .int a3)]) hx hb dX3_late_39 hl (by decide) rfl (fun ls hl => ?_)
        obtain ⟨z6, e6, hr⟩ := ob hr
        refine m_join (I := fun (_ : Unit) H locs ls => mX G S H ∧ va_S (zA G) s.heap H locs ∧ lv_has ls 6 [(4, .int z6)]) 81 (fun _ => []) (fun _ H locs ls hi => ?_) (fun J4_81 => ?_)
        · obtain ⟨hX, hS, hl⟩ := hi
          refine lv_iload hx hb dX3_late_81 (lv_at hl 0 rfl) ?_
          exact m_ri (C := C) hret hlk hX hS (Option.some.inj hr) dX3_late_83
        refine m_loop e6 (fun (t4 : Int32 × Int32) H locs ls => mX G S H ∧ va_S (zA G) s.heap H locs ∧ lv_has ls 6 [(0, .ref (zh G)), (1, .int a1), (2, .int a2), (3, .int a3), (4, .int t4.1), (5, .int t4.2)]) 41 ⟨hX, hS, lv_sub hl [2, 3, 4, 5, 1, 0] rfl⟩ (fun t4 y4 b4 w4 k4 H locs ls hi => ?_)
        obtain ⟨hX, hS, hl⟩ := hi
        unfold fm_late_l41 at b4
        refine lv_iload hx hb dX3_late_41 (lv_at hl 5 rfl) ?_
        refine lv_bipush (v := 96) hx hb dX3_late_43 (by decide) ?_
        refine lv_icmp_ge (tgt := 81) hx hb dX3_late_45 (by decide) (fun c7 => ?_) (fun c7 => ?_)
        · replace b4 := it c7 b4
          replace b4 := lx b4 w4
          subst b4
          exact J4_81 () _ _ ls ⟨hX, hS, lv_sub hl [4] rfl⟩
        · replace b4 := ie c7 b4
          refine lv_aload_n hx hb dX3_late_48 rfl (lv_at hl 0 rfl) ?_
          refine lv_iload_n hx hb dX3_late_49 rfl (lv_at hl 1 rfl) ?_
          refine lv_iload_n hx hb dX3_late_50 rfl (lv_at hl 2 rfl) ?_
          refine lv_iload hx hb dX3_late_51 (lv_at hl 5 rfl) ?_
          obtain ⟨x8, e8, b4⟩ := ob b4
          refine m_cvi (As := [.int a1, .int a2, .int t4.2]) (rest := []) C hX hS hl.1 (cm_hourOf l G hG S a1 a2 t4.2 e8) (cwV 3 hts (lw_V q2079 q2081 qs61 q109 q2082) rfl rfl rfl (by decide +kernel) ⟨Nat.le_of_ble_eq_true rfl, Nat.le_of_ble_eq_true rfl⟩) rfl rfl (Nat.le_of_ble_eq_true rfl) dX3_late_53 (fun H locs hX hS => ?_)
          refine lv_i2l (v := x8.toInt64) hx hb dX3_late_56 rfl ?_
          refine lv_lconst (v := 0) hx hb dX3_late_57 (by decide) ?_
          refine lv_iload_n hx hb dX3_late_58 rfl (lv_at hl 3 rfl) ?_
          refine lv_i2l (v := a3.toInt64) hx hb dX3_late_59 rfl ?_
          refine m_csi (As := [.long x8.toInt64, .long (0 : Int64), .long a3.toInt64]) (rest := []) C hX hS hl.1 (cm_in l x8.toInt64 (0 : Int64) a3.toInt64 rfl) (va_cwS 3 hts (lw_S q1974 q1975 q109 q1976) rfl rfl rfl (by decide +kernel) ⟨Nat.le_of_ble_eq_true rfl, Nat.le_of_ble_eq_true rfl⟩) rfl rfl (Nat.le_of_ble_eq_true rfl) dX3_late_60 (fun H locs hX hS => ?_)
          obtain ⟨x9, r9, b4⟩ := ob b4
          refine m_join (I := fun (t10 : Int32) H locs ls => x9 = t10 ∧ mX G S H ∧ va_S (zA G) s.heap H locs ∧ lv_has ls 6 [(0, .ref (zh G)), (1, .int a1), (2, .int a2), (3, .int a3), (5, .int t4.2)]) 73 (fun t10 => [.int t10]) (fun t10 H locs ls hi => ?_) (fun J9 => ?_)
          · obtain ⟨rfl, hX, hS, hl⟩ := hi
            refine lv_istore (lv' := [(4, .int x9), (0, .ref (zh G)), (1, .int a1), (2, .int a2), (3, .int a3), (5, .int t4.2)]) hx hb dX3_late_73 hl (by decide) rfl (fun ls hl => ?_)
            refine lv_iinc (v := (t4.2 + (1 : Int32))) (k := 5) (lv' := [(5, .int (t4.2 + (1 : Int32))), (4, .int x9), (0, .ref (zh G)), (1, .int a1), (2, .int a2), (3, .int a3)]) hx hb dX3_late_75 hl rfl rfl (by decide) rfl (fun ls hl => ?_)
            refine lv_goto (tgt := 41) hx hb dX3_late_78 (by decide) ?_
            obtain ⟨g12, hg12⟩ : ∃ g, g = (t4.2 + (1 : Int32)) := ⟨_, rfl⟩
            rw [← hg12] at hl b4
            exact k4 _ (Option.some.inj b4).symm _ _ ls ⟨hX, hS, lv_sub hl [2, 3, 4, 5, 1, 0] rfl⟩
          · refine lv_if_eq (tgt := 71) hx hb dX3_late_63 (by decide) (fun c11 => ?_) (fun c11 => ?_)
            · replace r9 := it c11 r9
              refine lv_iload hx hb dX3_late_71 (lv_at hl 4 rfl) ?_
              exact J9 _ _ _ ls ⟨(Option.some.inj r9).symm, hX, hS, lv_sub hl [0, 1, 2, 3, 5] rfl⟩
            · replace r9 := ie c11 r9
              refine lv_iload hx hb dX3_late_66 (lv_at hl 5 rfl) ?_
              refine lv_goto (tgt := 73) hx hb dX3_late_68 (by decide) ?_
              exact J9 _ _ _ ls ⟨(Option.some.inj r9).symm, hX, hS, lv_sub hl [0, 1, 2, 3, 5] rfl⟩
      · replace hr := it c3 hr
        refine lv_iconst (v := -1) hx hb dX3_late_32 (by decide) ?_
        exact m_ri (C := C) hret hlk hX hS (Option.some.inj hr) dX3_late_33
