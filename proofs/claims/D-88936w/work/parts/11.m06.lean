/-! M's methods, printed by tool/genm.py -/
def fm_fault (S : mS) : Int32 :=
  (gI S 33)
set_option maxHeartbeats 4000000 in
set_option maxRecDepth 100000 in
theorem cm_fault (l : Launch) (G : mGh) (hG : mOk G) (S : mS)  {r : Int32} (hr : fm_fault S = r) : Met l yX3_fault (ws_ yX3_fault cX3_fault 1 (some .int)) ({ frames := 0, cells := 0, slots := 0, locals := 0 } : Room) (mPc G [] S) (mQi G r S) 0 0 (zA G) := by
  refine m_met cX3_fault (by decide) rfl hG (Nat.le_of_ble_eq_true rfl) (fun p e s m args below meth c C hret hlk ls hX hl => ?_)
  have hx := C.1.1
  have hb := C.1.2.1
  have hown := C.1.2.2.2.1
  have hts := C.1.2.2.2.2
  have hS : va_S (zA G) s.heap s.heap [] := va_S.rf
  have hl : lv_has ls 1 [(0, .ref (zh G))] := hl
  unfold fm_fault at hr
  refine lv_aload_n hx hb dX3_fault_0 rfl (lv_at hl 0 rfl) ?_
  refine m_gi (k := 33) C q1731 rfl hX dX3_fault_1 ?_
  exact m_ri (C := C) hret hlk hX hS hr dX3_fault_4

def fm_sets_k31 (a1 : Int32) (a2 : Int32) (a3 : Int32) (z3 : mS) : Option (mS) :=
  (tI z3 46 (3 : Int32) a2).bind fun x9 =>
  (fm_greatestHard x9 a1).bind fun x10 =>
  (tI x9 46 (4 : Int32) x10).bind fun x11 =>
  (tI x11 46 (5 : Int32) a3).bind fun x12 =>
  (fm_sumHard x12 a1).bind fun x13 =>
  (tI x12 46 (6 : Int32) x13).bind fun x14 =>
  (fm_sumLength x14 a1).bind fun x15 =>
  (tI x14 46 (7 : Int32) x15).bind fun x16 =>
  (tI x16 46 (8 : Int32) (gI x16 25)).bind fun x17 =>
  some x17
def fm_sets_l3 (a2 : Int32) (t1 : mS × Int32) : Option ((mS × Int32) ⊕ (mS)) :=
  (if (3 : Int32) ≤ t1.2 then
  some (.inr t1.1)
  else
  (dI a2 (4 : Int32)).bind fun x5 =>
  (fm_weatherOf t1.1 x5 t1.2).bind fun x6 =>
  (tI t1.1 46 t1.2 x6).bind fun x7 =>
  some (.inl (x7, (t1.2 + (1 : Int32)))))
def fm_sets (S : mS) (a1 : Int32) (a2 : Int32) (a3 : Int32) : Option mS :=
  (loopO (fm_sets_l3 a2) 1000000 (S, (0 : Int32))).bind (fun z3 => fm_sets_k31 a1 a2 a3 z3)
set_option maxHeartbeats 4000000 in
set_option maxRecDepth 100000 in
theorem cm_sets (l : Launch) (G : mGh) (hG : mOk G) (S : mS) (a1 : Int32) (a2 : Int32) (a3 : Int32) {S' : mS} (hr : fm_sets S a1 a2 a3 = some S') : Met l yX3_sets (ws_ yX3_sets cX3_sets 5 none) ({ frames := 2, cells := 0, slots := 0, locals := 46 } : Room) (mPc G [.int a1, .int a2, .int a3] S) (mQv G S') 0 0 (zA G) := by
  refine m_met cX3_sets (by decide) rfl hG (Nat.le_of_ble_eq_true rfl) (fun p e s m args below meth c C hret hlk ls hX hl => ?_)
  have hx := C.1.1
  have hb := C.1.2.1
  have hown := C.1.2.2.2.1
  have hts := C.1.2.2.2.2
  have hS : va_S (zA G) s.heap s.heap [] := va_S.rf
  have hl : lv_has ls 5 [(0, .ref (zh G)), (1, .int a1), (2, .int a2), (3, .int a3)] := hl
  unfold fm_sets at hr
  refine lv_iconst (v := 0) hx hb dX3_sets_0 (by decide) ?_
  refine lv_istore (lv' := [(4, .int (0 : Int32)), (0, .ref (zh G)), (1, .int a1), (2, .int a2), (3, .int a3)]) hx hb dX3_sets_1 hl (by decide) rfl (fun ls hl => ?_)
  obtain ⟨z3, e3, hr⟩ := ob hr
  refine m_join (I := fun (_ : Unit) H locs ls => mX G z3 H ∧ va_S (zA G) s.heap H locs ∧ lv_has ls 5 [(0, .ref (zh G)), (1, .int a1), (2, .int a2), (3, .int a3)]) 31 (fun _ => []) (fun _ H locs ls hi => ?_) (fun J1_31 => ?_)
  · obtain ⟨hX, hS, hl⟩ := hi
    unfold fm_sets_k31 at hr
    refine lv_aload_n hx hb dX3_sets_31 rfl (lv_at hl 0 rfl) ?_
    refine m_ga (k := 46) (d := 0) C q1744 rfl (by decide) hX dX3_sets_32 ?_
    refine lv_iconst (v := 3) hx hb dX3_sets_35 (by decide) ?_
    refine lv_iload_n hx hb dX3_sets_36 rfl (lv_at hl 2 rfl) ?_
    obtain ⟨x9, e9, hr⟩ := ob hr
    refine m_is (k := 46) C rfl hX hS e9 dX3_sets_37 (fun H locs hX hS => ?_)
    refine lv_aload_n hx hb dX3_sets_38 rfl (lv_at hl 0 rfl) ?_
    refine m_ga (k := 46) (d := 0) C q1744 rfl (by decide) hX dX3_sets_39 ?_
    refine lv_iconst (v := 4) hx hb dX3_sets_42 (by decide) ?_
    refine lv_aload_n hx hb dX3_sets_43 rfl (lv_at hl 0 rfl) ?_
    refine lv_iload_n hx hb dX3_sets_44 rfl (lv_at hl 1 rfl) ?_
    obtain ⟨x10, e10, hr⟩ := ob hr
    refine m_cvi (As := [.int a1]) (rest := [.int (4 : Int32), .ref (zad G 46)]) C hX hS hl.1 (cm_greatestHard l G hG x9 a1 e10) (cwV 1 hts (lw_V q2020 q2022 qs55 q109 q2023) rfl rfl rfl (by decide +kernel) ⟨Nat.le_of_ble_eq_true rfl, Nat.le_of_ble_eq_true rfl⟩) rfl rfl (Nat.le_of_ble_eq_true rfl) dX3_sets_45 (fun H locs hX hS => ?_)
    obtain ⟨x11, e11, hr⟩ := ob hr
    refine m_is (k := 46) C rfl hX hS e11 dX3_sets_48 (fun H locs hX hS => ?_)
    refine lv_aload_n hx hb dX3_sets_49 rfl (lv_at hl 0 rfl) ?_
    refine m_ga (k := 46) (d := 0) C q1744 rfl (by decide) hX dX3_sets_50 ?_
    refine lv_iconst (v := 5) hx hb dX3_sets_53 (by decide) ?_
    refine lv_iload_n hx hb dX3_sets_54 rfl (lv_at hl 3 rfl) ?_
    obtain ⟨x12, e12, hr⟩ := ob hr
    refine m_is (k := 46) C rfl hX hS e12 dX3_sets_55 (fun H locs hX hS => ?_)
    refine lv_aload_n hx hb dX3_sets_56 rfl (lv_at hl 0 rfl) ?_
    refine m_ga (k := 46) (d := 0) C q1744 rfl (by decide) hX dX3_sets_57 ?_
    refine lv_bipush (v := 6) hx hb dX3_sets_60 (by decide) ?_
    refine lv_aload_n hx hb dX3_sets_62 rfl (lv_at hl 0 rfl) ?_
    refine lv_iload_n hx hb dX3_sets_63 rfl (lv_at hl 1 rfl) ?_
    obtain ⟨x13, e13, hr⟩ := ob hr
    refine m_cvi (As := [.int a1]) (rest := [.int (6 : Int32), .ref (zad G 46)]) C hX hS hl.1 (cm_sumHard l G hG x12 a1 e13) (cwV 1 hts (lw_V q2024 q2026 qs56 q109 q2027) rfl rfl rfl (by decide +kernel) ⟨Nat.le_of_ble_eq_true rfl, Nat.le_of_ble_eq_true rfl⟩) rfl rfl (Nat.le_of_ble_eq_true rfl) dX3_sets_64 (fun H locs hX hS => ?_)
    obtain ⟨x14, e14, hr⟩ := ob hr
    refine m_is (k := 46) C rfl hX hS e14 dX3_sets_67 (fun H locs hX hS => ?_)
    refine lv_aload_n hx hb dX3_sets_68 rfl (lv_at hl 0 rfl) ?_
    refine m_ga (k := 46) (d := 0) C q1744 rfl (by decide) hX dX3_sets_69 ?_
    refine lv_bipush (v := 7) hx hb dX3_sets_72 (by decide) ?_
    refine lv_aload_n hx hb dX3_sets_74 rfl (lv_at hl 0 rfl) ?_
    refine lv_iload_n hx hb dX3_sets_75 rfl (lv_at hl 1 rfl) ?_
    obtain ⟨x15, e15, hr⟩ := ob hr
    refine m_cvi (As := [.int a1]) (rest := [.int (7 : Int32), .ref (zad G 46)]) C hX hS hl.1 (cm_sumLength l G hG x14 a1 e15) (cwV 1 hts (lw_V q2028 q2030 qs57 q109 q2031) rfl rfl rfl (by decide +kernel) ⟨Nat.le_of_ble_eq_true rfl, Nat.le_of_ble_eq_true rfl⟩) rfl rfl (Nat.le_of_ble_eq_true rfl) dX3_sets_76 (fun H locs hX hS => ?_)
    obtain ⟨x16, e16, hr⟩ := ob hr
    refine m_is (k := 46) C rfl hX hS e16 dX3_sets_79 (fun H locs hX hS => ?_)
    refine lv_aload_n hx hb dX3_sets_80 rfl (lv_at hl 0 rfl) ?_
    refine m_ga (k := 46) (d := 0) C q1744 rfl (by decide) hX dX3_sets_81 ?_
    refine lv_bipush (v := 8) hx hb dX3_sets_84 (by decide) ?_
    refine lv_aload_n hx hb dX3_sets_86 rfl (lv_at hl 0 rfl) ?_
    refine m_gi (k := 25) C q1723 rfl hX dX3_sets_87 ?_
    obtain ⟨x17, e17, hr⟩ := ob hr
    refine m_is (k := 46) C rfl hX hS e17 dX3_sets_90 (fun H locs hX hS => ?_)
    exact m_rvw (C := C) hret hlk hX hS (Option.some.inj hr) dX3_sets_91
  refine m_loop e3 (fun (t1 : mS × Int32) H locs ls => mX G t1.1 H ∧ va_S (zA G) s.heap H locs ∧ lv_has ls 5 [(0, .ref (zh G)), (1, .int a1), (2, .int a2), (3, .int a3), (4, .int t1.2)]) 3 ⟨hX, hS, lv_sub hl [1, 2, 3, 4, 0] rfl⟩ (fun t1 y1 b1 w1 k1 H locs ls hi => ?_)
  obtain ⟨hX, hS, hl⟩ := hi
  unfold fm_sets_l3 at b1
  refine lv_iload hx hb dX3_sets_3 (lv_at hl 4 rfl) ?_
  refine lv_iconst (v := 3) hx hb dX3_sets_5 (by decide) ?_
  refine lv_icmp_ge (tgt := 31) hx hb dX3_sets_6 (by decide) (fun c4 => ?_) (fun c4 => ?_)
  · replace b1 := it c4 b1
    replace b1 := lx b1 w1
    subst b1
    exact J1_31 () _ _ ls ⟨hX, hS, lv_sub hl [0, 1, 2, 3] rfl⟩
  · replace b1 := ie c4 b1
    refine lv_aload_n hx hb dX3_sets_9 rfl (lv_at hl 0 rfl) ?_
    refine m_ga (k := 46) (d := 0) C q1744 rfl (by decide) hX dX3_sets_10 ?_
    refine lv_iload hx hb dX3_sets_13 (lv_at hl 4 rfl) ?_
    refine lv_aload_n hx hb dX3_sets_15 rfl (lv_at hl 0 rfl) ?_
    refine lv_iload_n hx hb dX3_sets_16 rfl (lv_at hl 2 rfl) ?_
    refine lv_iconst (v := 4) hx hb dX3_sets_17 (by decide) ?_
    obtain ⟨x5, e5, b1⟩ := ob b1
    refine m_id C e5 dX3_sets_18 ?_
    refine lv_iload hx hb dX3_sets_19 (lv_at hl 4 rfl) ?_
    obtain ⟨x6, e6, b1⟩ := ob b1
    refine m_cvi (As := [.int x5, .int t1.2]) (rest := [.int t1.2, .ref (zad G 46)]) C hX hS hl.1 (cm_weatherOf l G hG t1.1 x5 t1.2 e6) (cwV 2 hts (lw_V q2051 q2053 qs58 q109 q2054) rfl rfl rfl (by decide +kernel) ⟨Nat.le_of_ble_eq_true rfl, Nat.le_of_ble_eq_true rfl⟩) rfl rfl (Nat.le_of_ble_eq_true rfl) dX3_sets_21 (fun H locs hX hS => ?_)
    obtain ⟨x7, e7, b1⟩ := ob b1
    refine m_is (k := 46) C rfl hX hS e7 dX3_sets_24 (fun H locs hX hS => ?_)
    refine lv_iinc (v := (t1.2 + (1 : Int32))) (k := 4) (lv' := [(4, .int (t1.2 + (1 : Int32))), (0, .ref (zh G)), (1, .int a1), (2, .int a2), (3, .int a3)]) hx hb dX3_sets_25 hl rfl rfl (by decide) rfl (fun ls hl => ?_)
    refine lv_goto (tgt := 3) hx hb dX3_sets_28 (by decide) ?_
    obtain ⟨g8, hg8⟩ : ∃ g, g = (t1.2 + (1 : Int32)) := ⟨_, rfl⟩
    rw [← hg8] at hl b1
    exact k1 _ (Option.some.inj b1).symm _ _ ls ⟨hX, hS, lv_sub hl [1, 2, 3, 4, 0] rfl⟩

def fm_isAsked (S : mS) (a1 : Int32) (a2 : Int32) (a3 : Int32) : Option (mS × Int32) :=
  (if (fm_isRoute S a1) = 0 then
  some (S, (0 : Int32))
  else
  (if (fm_in a2.toInt64 (0 : Int64) (95 : Int64)) = 0 then
  some (S, (0 : Int32))
  else
  (if (fm_in a3.toInt64 (1 : Int64) (9 : Int64)) = 0 then
  some (S, (0 : Int32))
  else
  (fm_sets S a1 a2 a3).bind fun x4 =>
  some (x4, (1 : Int32)))))
set_option maxHeartbeats 4000000 in
set_option maxRecDepth 100000 in
theorem cm_isAsked (l : Launch) (G : mGh) (hG : mOk G) (S : mS) (a1 : Int32) (a2 : Int32) (a3 : Int32) {S' : mS} {r : Int32} (hr : fm_isAsked S a1 a2 a3 = some (S', r)) : Met l yX3_isAsked (ws_ yX3_isAsked cX3_isAsked 4 (some .boolean)) ({ frames := 3, cells := 0, slots := 0, locals := 70 } : Room) (mPc G [.int a1, .int a2, .int a3] S) (mQi G r S') 0 0 (zA G) := by
  refine m_met cX3_isAsked (by decide) rfl hG (Nat.le_of_ble_eq_true rfl) (fun p e s m args below meth c C hret hlk ls hX hl => ?_)
  have hx := C.1.1
  have hb := C.1.2.1
  have hown := C.1.2.2.2.1
  have hts := C.1.2.2.2.2
  have hS : va_S (zA G) s.heap s.heap [] := va_S.rf
  have hl : lv_has ls 4 [(0, .ref (zh G)), (1, .int a1), (2, .int a2), (3, .int a3)] := hl
  unfold fm_isAsked at hr
  refine lv_aload_n hx hb dX3_isAsked_0 rfl (lv_at hl 0 rfl) ?_
  refine lv_iload_n hx hb dX3_isAsked_1 rfl (lv_at hl 1 rfl) ?_
  refine m_cvi (As := [.int a1]) (rest := []) C hX hS hl.1 (cm_isRoute l G hG S a1 rfl) (cwV 1 hts (lw_V q2003 q2005 qs52 q109 q2006) rfl rfl rfl (by decide +kernel) ⟨Nat.le_of_ble_eq_true rfl, Nat.le_of_ble_eq_true rfl⟩) rfl rfl (Nat.le_of_ble_eq_true rfl) dX3_isAsked_2 (fun H locs hX hS => ?_)
  refine lv_if_eq (tgt := 32) hx hb dX3_isAsked_5 (by decide) (fun c1 => ?_) (fun c1 => ?_)
  · replace hr := it c1 hr
    refine lv_iconst (v := 0) hx hb dX3_isAsked_32 (by decide) ?_
    exact m_rzw (C := C) hret hlk hX hS (by decide) (Option.some.inj hr) dX3_isAsked_33
  · replace hr := ie c1 hr
    refine lv_iload_n hx hb dX3_isAsked_8 rfl (lv_at hl 2 rfl) ?_
    refine lv_i2l (v := a2.toInt64) hx hb dX3_isAsked_9 rfl ?_
    refine lv_lconst (v := 0) hx hb dX3_isAsked_10 (by decide) ?_
    refine lv_ldc2 hx hb hown (hts _ q2070) dX3_isAsked_11 ?_
    refine m_csi (As := [.long a2.toInt64, .long (0 : Int64), .long (95 : Int64)]) (rest := []) C hX hS hl.1 (cm_in l a2.toInt64 (0 : Int64) (95 : Int64) rfl) (va_cwS 3 hts (lw_S q1974 q1975 q109 q1976) rfl rfl rfl (by decide +kernel) ⟨Nat.le_of_ble_eq_true rfl, Nat.le_of_ble_eq_true rfl⟩) rfl rfl (Nat.le_of_ble_eq_true rfl) dX3_isAsked_14 (fun H locs hX hS => ?_)
    refine lv_if_eq (tgt := 32) hx hb dX3_isAsked_17 (by decide) (fun c2 => ?_) (fun c2 => ?_)
    · replace hr := it c2 hr
      refine lv_iconst (v := 0) hx hb dX3_isAsked_32 (by decide) ?_
      exact m_rzw (C := C) hret hlk hX hS (by decide) (Option.some.inj hr) dX3_isAsked_33
    · replace hr := ie c2 hr
      refine lv_iload_n hx hb dX3_isAsked_20 rfl (lv_at hl 3 rfl) ?_
      refine lv_i2l (v := a3.toInt64) hx hb dX3_isAsked_21 rfl ?_
      refine lv_lconst (v := 1) hx hb dX3_isAsked_22 (by decide) ?_
      refine lv_ldc2 hx hb hown (hts _ q1973) dX3_isAsked_23 ?_
      refine m_csi (As := [.long a3.toInt64, .long (1 : Int64), .long (9 : Int64)]) (rest := []) C hX hS hl.1 (cm_in l a3.toInt64 (1 : Int64) (9 : Int64) rfl) (va_cwS 3 hts (lw_S q1974 q1975 q109 q1976) rfl rfl rfl (by decide +kernel) ⟨Nat.le_of_ble_eq_true rfl, Nat.le_of_ble_eq_true rfl⟩) rfl rfl (Nat.le_of_ble_eq_true rfl) dX3_isAsked_26 (fun H locs hX hS => ?_)
      refine lv_if_ne (tgt := 34) hx hb dX3_isAsked_29 (by decide) (fun c3 => ?_) (fun c3 => ?_)
      · replace hr := ie c3 hr
        refine lv_aload_n hx hb dX3_isAsked_34 rfl (lv_at hl 0 rfl) ?_
        refine lv_iload_n hx hb dX3_isAsked_35 rfl (lv_at hl 1 rfl) ?_
        refine lv_iload_n hx hb dX3_isAsked_36 rfl (lv_at hl 2 rfl) ?_
        refine lv_iload_n hx hb dX3_isAsked_37 rfl (lv_at hl 3 rfl) ?_
        obtain ⟨x4, e4, hr⟩ := ob hr
        refine m_cvv (As := [.int a1, .int a2, .int a3]) (rest := []) C hX hS hl.1 (cm_sets l G hG S a1 a2 a3 e4) (cwV 3 hts (lw_V q2217 q2219 qs81 q109 q2220) rfl rfl rfl (by decide +kernel) ⟨Nat.le_of_ble_eq_true rfl, Nat.le_of_ble_eq_true rfl⟩) rfl rfl (Nat.le_of_ble_eq_true rfl) dX3_isAsked_38 (fun H locs hX hS => ?_)
        refine lv_iconst (v := 1) hx hb dX3_isAsked_41 (by decide) ?_
        exact m_rzw (C := C) hret hlk hX hS (by decide) (Option.some.inj hr) dX3_isAsked_42
      · replace hr := it c3 hr
        refine lv_iconst (v := 0) hx hb dX3_isAsked_32 (by decide) ?_
        exact m_rzw (C := C) hret hlk hX hS (by decide) (Option.some.inj hr) dX3_isAsked_33

def fm_work_k37_  (x1 : Int64) : Option (Int32) :=
  (if (lg_cmp x1 (1000000 : Int64)) ≤ 0 then
  (if 0 ≤ (lg_cmp x1 (-1000000 : Int64)) then
  some x1.toInt32
  else
  some ((-1000000 : Int64).toInt32))
  else
  some ((1000000 : Int64).toInt32))
def fm_work (a1 : Int32) (a2 : Int32) (a3 : Int32) : Option Int32 :=
  (((if a3 = (43 : Int32) then
  some (a1.toInt64 + a2.toInt64)
  else
  (if a3 = (45 : Int32) then
  some (a1.toInt64 - a2.toInt64)
  else
  some (a1.toInt64 * a2.toInt64))) : Option (Int64))).bind (fun x1 => fm_work_k37_ x1)
set_option maxHeartbeats 4000000 in
set_option maxRecDepth 100000 in
theorem cm_work (l : Launch) (a1 : Int32) (a2 : Int32) (a3 : Int32) {r : Int32} (hr : fm_work a1 a2 a3 = some r) : Met l yX3_work (ws_ yX3_work cX3_work 9 (some .int)) ({ frames := 0, cells := 0, slots := 0, locals := 0 } : Room) (nPc [.int a1, .int a2, .int a3]) (nQi r) 0 0 (fun _ => False) := by
  refine n_met cX3_work RX3 (by decide) rfl (Nat.le_of_ble_eq_true rfl) (fun p e s m args below meth c C hret hlk ls hl => ?_)
  have hx := C.1
  have hb := C.2.1
  have hown := C.2.2.2.1
  have hts := C.2.2.2.2
  have hl : lv_has ls 9 [(0, .int a1), (1, .int a2), (2, .int a3)] := hl
  unfold fm_work at hr
  refine lv_iload_n hx hb dX3_work_0 rfl (lv_at hl 0 rfl) ?_
  refine lv_i2l (v := a1.toInt64) hx hb dX3_work_1 rfl ?_
  refine lv_lstore_n (lv' := [(3, .long a1.toInt64), (0, .int a1), (1, .int a2), (2, .int a3)]) hx hb dX3_work_2 rfl hl (by decide) rfl (fun ls hl => ?_)
  refine lv_iload_n hx hb dX3_work_3 rfl (lv_at hl 2 rfl) ?_
  refine lv_i2l (v := a2.toInt64) hx hb dX3_work_4 rfl ?_
  refine lv_lstore (lv' := [(5, .long a2.toInt64), (3, .long a1.toInt64), (0, .int a1), (1, .int a2), (2, .int a3)]) hx hb dX3_work_5 hl (by decide) rfl (fun ls hl => ?_)
  refine lv_iload_n hx hb dX3_work_7 rfl (lv_at hl 4 rfl) ?_
  refine lv_bipush (v := 43) hx hb dX3_work_8 (by decide) ?_
  obtain ⟨x1, r1, hr⟩ := ob hr
  refine m_join (I := fun (t2 : Int64) H locs ls => x1 = t2 ∧ H = s.heap ∧ locs = [] ∧ lv_has ls 9 []) 37 (fun t2 => [.long t2]) (fun t2 H locs ls hi => ?_) (fun J1 => ?_)
  · obtain ⟨rfl, rfl, rfl, hl⟩ := hi
    unfold fm_work_k37_ at hr
    refine lv_lstore (lv' := [(7, .long x1)]) hx hb dX3_work_37 hl (by decide) rfl (fun ls hl => ?_)
    refine lv_lload hx hb dX3_work_39 (lv_at hl 0 rfl) ?_
    refine lv_ldc2 hx hb hown (hts _ q2232) dX3_work_41 ?_
    refine W.lcmp hx hb dX3_work_44 ?_
    refine lv_if_le (tgt := 54) hx hb dX3_work_45 (by decide) (fun c8 => ?_) (fun c8 => ?_)
    · replace hr := it c8 hr
      refine lv_lload hx hb dX3_work_54 (lv_at hl 0 rfl) ?_
      refine lv_ldc2 hx hb hown (hts _ q2233) dX3_work_56 ?_
      refine W.lcmp hx hb dX3_work_59 ?_
      refine lv_if_ge (tgt := 69) hx hb dX3_work_60 (by decide) (fun c9 => ?_) (fun c9 => ?_)
      · replace hr := it c9 hr
        refine lv_lload hx hb dX3_work_69 (lv_at hl 0 rfl) ?_
        refine lv_l2i (v := x1.toInt32) hx hb dX3_work_71 rfl ?_
        exact n_ri hx hb hret hlk (Option.some.inj hr) dX3_work_72
      · replace hr := ie c9 hr
        refine lv_ldc2 hx hb hown (hts _ q2233) dX3_work_63 ?_
        refine lv_goto (tgt := 71) hx hb dX3_work_66 (by decide) ?_
        refine lv_l2i (v := (-1000000 : Int64).toInt32) hx hb dX3_work_71 rfl ?_
        exact n_ri hx hb hret hlk (Option.some.inj hr) dX3_work_72
    · replace hr := ie c8 hr
      refine lv_ldc2 hx hb hown (hts _ q2232) dX3_work_48 ?_
      refine lv_goto (tgt := 71) hx hb dX3_work_51 (by decide) ?_
      refine lv_l2i (v := (1000000 : Int64).toInt32) hx hb dX3_work_71 rfl ?_
      exact n_ri hx hb hret hlk (Option.some.inj hr) dX3_work_72
  · refine lv_icmp_ne (tgt := 20) hx hb dX3_work_10 (by decide) (fun c3 => ?_) (fun c3 => ?_)
    · replace r1 := ie c3 r1
      refine lv_iload_n hx hb dX3_work_20 rfl (lv_at hl 4 rfl) ?_
      refine lv_bipush (v := 45) hx hb dX3_work_21 (by decide) ?_
      refine lv_icmp_ne (tgt := 33) hx hb dX3_work_23 (by decide) (fun c4 => ?_) (fun c4 => ?_)
      · replace r1 := ie c4 r1
        refine lv_lload_n hx hb dX3_work_33 rfl (lv_at hl 1 rfl) ?_
        refine lv_lload hx hb dX3_work_34 (lv_at hl 0 rfl) ?_
        refine lv_lmul hx hb dX3_work_36 ?_
        obtain ⟨g5, hg5⟩ : ∃ g, g = (a1.toInt64 * a2.toInt64) := ⟨_, rfl⟩
        rw [← hg5] at ⊢ r1
        exact J1 _ _ _ ls ⟨(Option.some.inj r1).symm, rfl, rfl, lv_sub hl [] rfl⟩
      · replace r1 := it c4 r1
        refine lv_lload_n hx hb dX3_work_26 rfl (lv_at hl 1 rfl) ?_
        refine lv_lload hx hb dX3_work_27 (lv_at hl 0 rfl) ?_
        refine lv_lsub hx hb dX3_work_29 ?_
        refine lv_goto (tgt := 37) hx hb dX3_work_30 (by decide) ?_
        obtain ⟨g6, hg6⟩ : ∃ g, g = (a1.toInt64 - a2.toInt64) := ⟨_, rfl⟩
        rw [← hg6] at ⊢ r1
        exact J1 _ _ _ ls ⟨(Option.some.inj r1).symm, rfl, rfl, lv_sub hl [] rfl⟩
    · replace r1 := it c3 r1
      refine lv_lload_n hx hb dX3_work_13 rfl (lv_at hl 1 rfl) ?_
      refine lv_lload hx hb dX3_work_14 (lv_at hl 0 rfl) ?_
      refine lv_ladd hx hb dX3_work_16 ?_
      refine lv_goto (tgt := 37) hx hb dX3_work_17 (by decide) ?_
      obtain ⟨g7, hg7⟩ : ∃ g, g = (a1.toInt64 + a2.toInt64) := ⟨_, rfl⟩
      rw [← hg7] at ⊢ r1
      exact J1 _ _ _ ls ⟨(Option.some.inj r1).symm, rfl, rfl, lv_sub hl [] rfl⟩

def fm_worked_k259 (t2 : mS × Int32 × Int32) (x7 : Int32) (x19 : Int32) (x20 : Int32) (x21 : Int32) (x32 : Int32) : Option (mS × Int32) :=
  (((if x32 = 0 then
  (if x21 = 0 then
  some (0 : Int32)
  else
  some (1 : Int32))
  else
  (fm_work x19 x20 ((-100 : Int32) - x7)).bind fun x41 =>
  some x41) : Option (Int32))).bind (fun x37 =>
  (tI t2.1 47 (t2.2.1 - (2 : Int32)) x37).bind fun x42 =>
  some (x42, (t2.2.1 + (-1 : Int32))))
def fm_worked_k231 (t2 : mS × Int32 × Int32) (x7 : Int32) (x19 : Int32) (x20 : Int32) (x21 : Int32) : Option (mS × Int32) :=
  (((if ((-100 : Int32) - x7) = (43 : Int32) then
  some (1 : Int32)
  else
  (if ((-100 : Int32) - x7) = (45 : Int32) then
  some (1 : Int32)
  else
  (if ((-100 : Int32) - x7) = (42 : Int32) then
  some (1 : Int32)
  else
  some (0 : Int32)))) : Option (Int32))).bind (fun x32 => fm_worked_k259 t2 x7 x19 x20 x21 x32)
def fm_worked_l9 (a1 : Int32) (t2 : mS × Int32 × Int32) : Option ((mS × Int32 × Int32) ⊕ (mS)) :=
  (aI t2.1 37 (a1 + (1 : Int32))).bind fun x5 =>
  (if x5 ≤ t2.2.2 then
  some (.inr t2.1)
  else
  (aI t2.1 38 t2.2.2).bind fun x7 =>
  (((if 0 ≤ x7 then
  (((if x7 < 0 then
  (aI t2.1 46 ((-1 : Int32) - x7)).bind fun x14 =>
  some x14
  else
  some x7) : Option (Int32))).bind (fun x11 =>
  (tI t2.1 47 t2.2.1 x11).bind fun x15 =>
  some (x15, (t2.2.1 + (1 : Int32))))
  else
  (if x7 ≤ (-100 : Int32) then
  (if x7 = (-133 : Int32) then
  (aI t2.1 47 (t2.2.1 - (1 : Int32))).bind fun x44 =>
  (tI t2.1 47 (t2.2.1 - (1 : Int32)) ((1 : Int32) - x44)).bind fun x45 =>
  some (x45, t2.2.1)
  else
  (aI t2.1 47 (t2.2.1 - (2 : Int32))).bind fun x19 =>
  (aI t2.1 47 (t2.2.1 - (1 : Int32))).bind fun x20 =>
  (((if ((-100 : Int32) - x7) = (60 : Int32) then
  (if x20 ≤ x19 then
  some (0 : Int32)
  else
  some (1 : Int32))
  else
  (if ((-100 : Int32) - x7) = (62 : Int32) then
  (if x19 ≤ x20 then
  some (0 : Int32)
  else
  some (1 : Int32))
  else
  (if ((-100 : Int32) - x7) = (61 : Int32) then
  (if x19 = x20 then
  some (1 : Int32)
  else
  some (0 : Int32))
  else
  (if ((-100 : Int32) - x7) = (38 : Int32) then
  (if (x19 + x20) = (2 : Int32) then
  some (1 : Int32)
  else
  some (0 : Int32))
  else
  (if (x19 + x20) ≤ 0 then
  some (0 : Int32)
  else
  some (1 : Int32)))))) : Option (Int32))).bind (fun x21 => fm_worked_k231 t2 x7 x19 x20 x21))
  else
  (((if x7 < 0 then
  (aI t2.1 46 ((-1 : Int32) - x7)).bind fun x49 =>
  some x49
  else
  some x7) : Option (Int32))).bind (fun x46 =>
  (tI t2.1 47 t2.2.1 x46).bind fun x50 =>
  some (x50, (t2.2.1 + (1 : Int32)))))) : Option (mS × Int32))).bind (fun x8 =>
  some (.inl (x8.1, x8.2, (t2.2.2 + (1 : Int32))))))
def fm_worked (S : mS) (a1 : Int32) : Option (mS × Int32) :=
  (aI S 37 a1).bind fun x1 =>
  (loopO (fm_worked_l9 a1) 1000000 (S, (0 : Int32), x1)).bind (fun z4 =>
  (aI z4 47 (0 : Int32)).bind fun x53 =>
  some (z4, x53))
set_option maxHeartbeats 4000000 in
set_option maxRecDepth 100000 in
theorem cm_worked (l : Launch) (G : mGh) (hG : mOk G) (S : mS) (a1 : Int32) {S' : mS} {r : Int32} (hr : fm_worked S a1 = some (S', r)) : Met l yX3_worked (ws_ yX3_worked cX3_worked 10 (some .int)) ({ frames := 1, cells := 0, slots := 0, locals := 28 } : Room) (mPc G [.int a1] S) (mQi G r S') 0 0 (zA G) := by
  refine m_met cX3_worked (by decide) rfl hG (Nat.le_of_ble_eq_true rfl) (fun p e s m args below meth c C hret hlk ls hX hl => ?_)
  have hx := C.1.1
  have hb := C.1.2.1
  have hown := C.1.2.2.2.1
  have hts := C.1.2.2.2.2
  have hS : va_S (zA G) s.heap s.heap [] := va_S.rf
  have hl : lv_has ls 10 [(0, .ref (zh G)), (1, .int a1)] := hl
  unfold fm_worked at hr
  refine lv_iconst (v := 0) hx hb dX3_worked_0 (by decide) ?_
  refine lv_istore_n (lv' := [(2, .int (0 : Int32)), (0, .ref (zh G)), (1, .int a1)]) hx hb dX3_worked_1 rfl hl (by decide) rfl (fun ls hl => ?_)
  refine lv_aload_n hx hb dX3_worked_2 rfl (lv_at hl 1 rfl) ?_
  refine m_ga (k := 37) (d := 0) C q1735 rfl (by decide) hX dX3_worked_3 ?_
  refine lv_iload_n hx hb dX3_worked_6 rfl (lv_at hl 2 rfl) ?_
  obtain ⟨x1, e1, hr⟩ := ob hr
  refine m_ia (k := 37) C rfl hX e1 dX3_worked_7 ?_
  refine lv_istore_n (lv' := [(3, .int x1), (2, .int (0 : Int32)), (0, .ref (zh G)), (1, .int a1)]) hx hb dX3_worked_8 rfl hl (by decide) rfl (fun ls hl => ?_)
  obtain ⟨z4, e4, hr⟩ := ob hr
  refine m_join (I := fun (_ : Unit) H locs ls => mX G z4 H ∧ va_S (zA G) s.heap H locs ∧ lv_has ls 10 [(0, .ref (zh G))]) 305 (fun _ => []) (fun _ H locs ls hi => ?_) (fun J2_305 => ?_)
  · obtain ⟨hX, hS, hl⟩ := hi
    refine lv_aload_n hx hb dX3_worked_305 rfl (lv_at hl 0 rfl) ?_
    refine m_ga (k := 47) (d := 0) C q1745 rfl (by decide) hX dX3_worked_306 ?_
    refine lv_iconst (v := 0) hx hb dX3_worked_309 (by decide) ?_
    obtain ⟨x53, e53, hr⟩ := ob hr
    refine m_ia (k := 47) C rfl hX e53 dX3_worked_310 ?_
    exact m_riw (C := C) hret hlk hX hS (Option.some.inj hr) dX3_worked_311
  refine m_loop e4 (fun (t2 : mS × Int32 × Int32) H locs ls => mX G t2.1 H ∧ va_S (zA G) s.heap H locs ∧ lv_has ls 10 [(0, .ref (zh G)), (1, .int a1), (2, .int t2.2.1), (3, .int t2.2.2)]) 9 ⟨hX, hS, lv_sub hl [2, 3, 1, 0] rfl⟩ (fun t2 y2 b2 w2 k2 H locs ls hi => ?_)
  obtain ⟨hX, hS, hl⟩ := hi
  unfold fm_worked_l9 at b2
  refine lv_iload_n hx hb dX3_worked_9 rfl (lv_at hl 3 rfl) ?_
  refine lv_aload_n hx hb dX3_worked_10 rfl (lv_at hl 0 rfl) ?_
  refine m_ga (k := 37) (d := 0) C q1735 rfl (by decide) hX dX3_worked_11 ?_
  refine lv_iload_n hx hb dX3_worked_14 rfl (lv_at hl 1 rfl) ?_
  refine lv_iconst (v := 1) hx hb dX3_worked_15 (by decide) ?_
  refine lv_iadd hx hb dX3_worked_16 ?_
  obtain ⟨x5, e5, b2⟩ := ob b2
  refine m_ia (k := 37) C rfl hX e5 dX3_worked_17 ?_
  refine lv_icmp_ge (tgt := 305) hx hb dX3_worked_18 (by decide) (fun c6 => ?_) (fun c6 => ?_)
  · replace b2 := it c6 b2
    replace b2 := lx b2 w2
    subst b2
    exact J2_305 () _ _ ls ⟨hX, hS, lv_sub hl [0] rfl⟩
  · replace b2 := ie c6 b2
    refine lv_aload_n hx hb dX3_worked_21 rfl (lv_at hl 0 rfl) ?_
    refine m_ga (k := 38) (d := 0) C q1736 rfl (by decide) hX dX3_worked_22 ?_
    refine lv_iload_n hx hb dX3_worked_25 rfl (lv_at hl 3 rfl) ?_
    obtain ⟨x7, e7, b2⟩ := ob b2
    refine m_ia (k := 38) C rfl hX e7 dX3_worked_26 ?_
    refine lv_istore (lv' := [(4, .int x7), (0, .ref (zh G)), (1, .int a1), (2, .int t2.2.1), (3, .int t2.2.2)]) hx hb dX3_worked_27 hl (by decide) rfl (fun ls hl => ?_)
    refine lv_iload hx hb dX3_worked_29 (lv_at hl 0 rfl) ?_
    obtain ⟨x8, r8, b2⟩ := ob b2
    refine m_join (I := fun (t9 : mS × Int32) H locs ls => x8 = t9 ∧ mX G t9.1 H ∧ va_S (zA G) s.heap H locs ∧ lv_has ls 10 [(0, .ref (zh G)), (1, .int a1), (2, .int t9.2), (3, .int t2.2.2)]) 299 (fun t9 => []) (fun t9 H locs ls hi => ?_) (fun J8 => ?_)
    · obtain ⟨rfl, hX, hS, hl⟩ := hi
      refine lv_iinc (v := (t2.2.2 + (1 : Int32))) (k := 3) (lv' := [(3, .int (t2.2.2 + (1 : Int32))), (0, .ref (zh G)), (1, .int a1), (2, .int x8.2)]) hx hb dX3_worked_299 hl rfl rfl (by decide) rfl (fun ls hl => ?_)
      refine lv_goto (tgt := 9) hx hb dX3_worked_302 (by decide) ?_
      obtain ⟨g52, hg52⟩ : ∃ g, g = (t2.2.2 + (1 : Int32)) := ⟨_, rfl⟩
      rw [← hg52] at hl b2
      exact k2 _ (Option.some.inj b2).symm _ _ ls ⟨hX, hS, lv_sub hl [1, 2, 3, 0] rfl⟩
    · refine lv_if_ge (tgt := 41) hx hb dX3_worked_31 (by decide) (fun c10 => ?_) (fun c10 => ?_)
      · replace r8 := it c10 r8
        refine lv_aload_n hx hb dX3_worked_41 rfl (lv_at hl 1 rfl) ?_
        refine m_ga (k := 47) (d := 0) C q1745 rfl (by decide) hX dX3_worked_42 ?_
        refine lv_iload_n hx hb dX3_worked_45 rfl (lv_at hl 3 rfl) ?_
        refine lv_iload hx hb dX3_worked_46 (lv_at hl 0 rfl) ?_
        obtain ⟨x11, r11, r8⟩ := ob r8
        refine m_join (I := fun (t12 : Int32) H locs ls => x11 = t12 ∧ mX G t2.1 H ∧ va_S (zA G) s.heap H locs ∧ lv_has ls 10 [(0, .ref (zh G)), (1, .int a1), (2, .int t2.2.1), (3, .int t2.2.2)]) 65 (fun t12 => [.int t12, .int t2.2.1, .ref (zad G 47)]) (fun t12 H locs ls hi => ?_) (fun J11 => ?_)
        · obtain ⟨rfl, hX, hS, hl⟩ := hi
          obtain ⟨x15, e15, r8⟩ := ob r8
          refine m_is (k := 47) C rfl hX hS e15 dX3_worked_65 (fun H locs hX hS => ?_)
          refine lv_iinc (v := (t2.2.1 + (1 : Int32))) (k := 2) (lv' := [(2, .int (t2.2.1 + (1 : Int32))), (0, .ref (zh G)), (1, .int a1), (3, .int t2.2.2)]) hx hb dX3_worked_66 hl rfl rfl (by decide) rfl (fun ls hl => ?_)
          refine lv_goto (tgt := 299) hx hb dX3_worked_69 (by decide) ?_
          obtain ⟨g16, hg16⟩ : ∃ g, g = (t2.2.1 + (1 : Int32)) := ⟨_, rfl⟩
          rw [← hg16] at hl r8
          exact J8 _ _ _ ls ⟨(Option.some.inj r8).symm, hX, hS, lv_sub hl [1, 2, 0, 3] rfl⟩
        · refine lv_if_lt (tgt := 56) hx hb dX3_worked_48 (by decide) (fun c13 => ?_) (fun c13 => ?_)
          · replace r11 := it c13 r11
            refine lv_aload_n hx hb dX3_worked_56 rfl (lv_at hl 1 rfl) ?_
            refine m_ga (k := 46) (d := 0) C q1744 rfl (by decide) hX dX3_worked_57 ?_
            refine lv_iconst (v := -1) hx hb dX3_worked_60 (by decide) ?_
            refine lv_iload hx hb dX3_worked_61 (lv_at hl 0 rfl) ?_
            refine lv_isub hx hb dX3_worked_63 ?_
            obtain ⟨x14, e14, r11⟩ := ob r11
            refine m_ia (k := 46) C rfl hX e14 dX3_worked_64 ?_
            exact J11 _ _ _ ls ⟨(Option.some.inj r11).symm, hX, hS, lv_sub hl [1, 2, 3, 4] rfl⟩
          · replace r11 := ie c13 r11
            refine lv_iload hx hb dX3_worked_51 (lv_at hl 0 rfl) ?_
            refine lv_goto (tgt := 65) hx hb dX3_worked_53 (by decide) ?_
            exact J11 _ _ _ ls ⟨(Option.some.inj r11).symm, hX, hS, lv_sub hl [1, 2, 3, 4] rfl⟩
      · replace r8 := ie c10 r8
        refine lv_iload hx hb dX3_worked_34 (lv_at hl 0 rfl) ?_
        refine lv_bipush (v := -100) hx hb dX3_worked_36 (by decide) ?_
        refine lv_icmp_le (tgt := 72) hx hb dX3_worked_38 (by decide) (fun c17 => ?_) (fun c17 => ?_)
        · replace r8 := it c17 r8
          refine lv_iload hx hb dX3_worked_72 (lv_at hl 0 rfl) ?_
          refine lv_sipush (v := -133) hx hb dX3_worked_74 (by decide) ?_
          refine lv_icmp_ne (tgt := 101) hx hb dX3_worked_77 (by decide) (fun c18 => ?_) (fun c18 => ?_)
          · replace r8 := ie c18 r8
            refine lv_bipush (v := -100) hx hb dX3_worked_101 (by decide) ?_
            refine lv_iload hx hb dX3_worked_103 (lv_at hl 0 rfl) ?_
            refine lv_isub hx hb dX3_worked_105 ?_
            refine lv_istore (lv' := [(5, .int ((-100 : Int32) - x7)), (4, .int x7), (0, .ref (zh G)), (1, .int a1), (2, .int t2.2.1), (3, .int t2.2.2)]) hx hb dX3_worked_106 hl (by decide) rfl (fun ls hl => ?_)
            refine lv_aload_n hx hb dX3_worked_108 rfl (lv_at hl 2 rfl) ?_
            refine m_ga (k := 47) (d := 0) C q1745 rfl (by decide) hX dX3_worked_109 ?_
            refine lv_iload_n hx hb dX3_worked_112 rfl (lv_at hl 4 rfl) ?_
            refine lv_iconst (v := 2) hx hb dX3_worked_113 (by decide) ?_
            refine lv_isub hx hb dX3_worked_114 ?_
            obtain ⟨x19, e19, r8⟩ := ob r8
            refine m_ia (k := 47) C rfl hX e19 dX3_worked_115 ?_
            refine lv_istore (lv' := [(6, .int x19), (5, .int ((-100 : Int32) - x7)), (4, .int x7), (0, .ref (zh G)), (1, .int a1), (2, .int t2.2.1), (3, .int t2.2.2)]) hx hb dX3_worked_116 hl (by decide) rfl (fun ls hl => ?_)
            refine lv_aload_n hx hb dX3_worked_118 rfl (lv_at hl 3 rfl) ?_
            refine m_ga (k := 47) (d := 0) C q1745 rfl (by decide) hX dX3_worked_119 ?_
            refine lv_iload_n hx hb dX3_worked_122 rfl (lv_at hl 5 rfl) ?_
            refine lv_iconst (v := 1) hx hb dX3_worked_123 (by decide) ?_
            refine lv_isub hx hb dX3_worked_124 ?_
            obtain ⟨x20, e20, r8⟩ := ob r8
            refine m_ia (k := 47) C rfl hX e20 dX3_worked_125 ?_
            refine lv_istore (lv' := [(7, .int x20), (6, .int x19), (5, .int ((-100 : Int32) - x7)), (4, .int x7), (0, .ref (zh G)), (1, .int a1), (2, .int t2.2.1), (3, .int t2.2.2)]) hx hb dX3_worked_126 hl (by decide) rfl (fun ls hl => ?_)
            refine lv_iload hx hb dX3_worked_128 (lv_at hl 2 rfl) ?_
            refine lv_bipush (v := 60) hx hb dX3_worked_130 (by decide) ?_
            obtain ⟨x21, r21, r8⟩ := ob r8
            refine m_join (I := fun (t22 : Int32) H locs ls => x21 = t22 ∧ mX G t2.1 H ∧ va_S (zA G) s.heap H locs ∧ lv_has ls 10 [(0, .ref (zh G)), (1, .int a1), (2, .int t2.2.1), (3, .int t2.2.2), (5, .int ((-100 : Int32) - x7)), (6, .int x19), (7, .int x20)]) 231 (fun t22 => [.int t22]) (fun t22 H locs ls hi => ?_) (fun J21 => ?_)
            · obtain ⟨rfl, hX, hS, hl⟩ := hi
              unfold fm_worked_k231 at r8
              refine lv_istore (lv' := [(8, .int x21), (0, .ref (zh G)), (1, .int a1), (2, .int t2.2.1), (3, .int t2.2.2), (5, .int ((-100 : Int32) - x7)), (6, .int x19), (7, .int x20)]) hx hb dX3_worked_231 hl (by decide) rfl (fun ls hl => ?_)
              refine lv_iload hx hb dX3_worked_233 (lv_at hl 5 rfl) ?_
              refine lv_bipush (v := 43) hx hb dX3_worked_235 (by decide) ?_
              obtain ⟨x32, r32, r8⟩ := ob r8
              refine m_join (I := fun (t33 : Int32) H locs ls => x32 = t33 ∧ mX G t2.1 H ∧ va_S (zA G) s.heap H locs ∧ lv_has ls 10 [(0, .ref (zh G)), (1, .int a1), (2, .int t2.2.1), (3, .int t2.2.2), (5, .int ((-100 : Int32) - x7)), (6, .int x19), (7, .int x20), (8, .int x21)]) 259 (fun t33 => [.int t33]) (fun t33 H locs ls hi => ?_) (fun J32 => ?_)
              · obtain ⟨rfl, hX, hS, hl⟩ := hi
                unfold fm_worked_k259 at r8
                refine lv_istore (lv' := [(9, .int x32), (0, .ref (zh G)), (1, .int a1), (2, .int t2.2.1), (3, .int t2.2.2), (5, .int ((-100 : Int32) - x7)), (6, .int x19), (7, .int x20), (8, .int x21)]) hx hb dX3_worked_259 hl (by decide) rfl (fun ls hl => ?_)
                refine lv_aload_n hx hb dX3_worked_261 rfl (lv_at hl 1 rfl) ?_
                refine m_ga (k := 47) (d := 0) C q1745 rfl (by decide) hX dX3_worked_262 ?_
                refine lv_iload_n hx hb dX3_worked_265 rfl (lv_at hl 3 rfl) ?_
                refine lv_iconst (v := 2) hx hb dX3_worked_266 (by decide) ?_
                refine lv_isub hx hb dX3_worked_267 ?_
                refine lv_iload hx hb dX3_worked_268 (lv_at hl 0 rfl) ?_
                obtain ⟨x37, r37, r8⟩ := ob r8
                refine m_join (I := fun (t38 : Int32) H locs ls => x37 = t38 ∧ mX G t2.1 H ∧ va_S (zA G) s.heap H locs ∧ lv_has ls 10 [(0, .ref (zh G)), (1, .int a1), (2, .int t2.2.1), (3, .int t2.2.2)]) 295 (fun t38 => [.int t38, .int (t2.2.1 - (2 : Int32)), .ref (zad G 47)]) (fun t38 H locs ls hi => ?_) (fun J37 => ?_)
                · obtain ⟨rfl, hX, hS, hl⟩ := hi
                  obtain ⟨x42, e42, r8⟩ := ob r8
                  refine m_is (k := 47) C rfl hX hS e42 dX3_worked_295 (fun H locs hX hS => ?_)
                  refine lv_iinc (v := (t2.2.1 + (-1 : Int32))) (k := 2) (lv' := [(2, .int (t2.2.1 + (-1 : Int32))), (0, .ref (zh G)), (1, .int a1), (3, .int t2.2.2)]) hx hb dX3_worked_296 hl rfl rfl (by decide) rfl (fun ls hl => ?_)
                  obtain ⟨g43, hg43⟩ : ∃ g, g = (t2.2.1 + (-1 : Int32)) := ⟨_, rfl⟩
                  rw [← hg43] at hl r8
                  exact J8 _ _ _ ls ⟨(Option.some.inj r8).symm, hX, hS, lv_sub hl [1, 2, 0, 3] rfl⟩
                · refine lv_if_eq (tgt := 285) hx hb dX3_worked_270 (by decide) (fun c39 => ?_) (fun c39 => ?_)
                  · replace r37 := it c39 r37
                    refine lv_iload hx hb dX3_worked_285 (lv_at hl 8 rfl) ?_
                    refine lv_if_eq (tgt := 294) hx hb dX3_worked_287 (by decide) (fun c40 => ?_) (fun c40 => ?_)
                    · replace r37 := it c40 r37
                      refine lv_iconst (v := 0) hx hb dX3_worked_294 (by decide) ?_
                      exact J37 _ _ _ ls ⟨(Option.some.inj r37).symm, hX, hS, lv_sub hl [1, 2, 3, 4] rfl⟩
                    · replace r37 := ie c40 r37
                      refine lv_iconst (v := 1) hx hb dX3_worked_290 (by decide) ?_
                      refine lv_goto (tgt := 295) hx hb dX3_worked_291 (by decide) ?_
                      exact J37 _ _ _ ls ⟨(Option.some.inj r37).symm, hX, hS, lv_sub hl [1, 2, 3, 4] rfl⟩
                  · replace r37 := ie c39 r37
                    refine lv_iload hx hb dX3_worked_273 (lv_at hl 6 rfl) ?_
                    refine lv_iload hx hb dX3_worked_275 (lv_at hl 7 rfl) ?_
                    refine lv_iload hx hb dX3_worked_277 (lv_at hl 5 rfl) ?_
                    obtain ⟨x41, e41, r37⟩ := ob r37
                    refine m_csi (As := [.int x19, .int x20, .int ((-100 : Int32) - x7)]) (rest := [.int (t2.2.1 - (2 : Int32)), .ref (zad G 47)]) C hX hS hl.1 (cm_work l x19 x20 ((-100 : Int32) - x7) e41) (va_cwS 3 hts (lw_S q2229 q2230 q109 q2231) rfl rfl rfl (by decide +kernel) ⟨Nat.le_of_ble_eq_true rfl, Nat.le_of_ble_eq_true rfl⟩) rfl rfl (Nat.le_of_ble_eq_true rfl) dX3_worked_279 (fun H locs hX hS => ?_)
                    refine lv_goto (tgt := 295) hx hb dX3_worked_282 (by decide) ?_
                    exact J37 _ _ _ ls ⟨(Option.some.inj r37).symm, hX, hS, lv_sub hl [1, 2, 3, 4] rfl⟩
              · refine lv_icmp_eq (tgt := 254) hx hb dX3_worked_237 (by decide) (fun c34 => ?_) (fun c34 => ?_)
                · replace r32 := it c34 r32
                  refine lv_iconst (v := 1) hx hb dX3_worked_254 (by decide) ?_
                  refine lv_goto (tgt := 259) hx hb dX3_worked_255 (by decide) ?_
                  exact J32 _ _ _ ls ⟨(Option.some.inj r32).symm, hX, hS, lv_sub hl [1, 2, 3, 4, 5, 6, 7, 0] rfl⟩
                · replace r32 := ie c34 r32
                  refine lv_iload hx hb dX3_worked_240 (lv_at hl 5 rfl) ?_
                  refine lv_bipush (v := 45) hx hb dX3_worked_242 (by decide) ?_
                  refine lv_icmp_eq (tgt := 254) hx hb dX3_worked_244 (by decide) (fun c35 => ?_) (fun c35 => ?_)
                  · replace r32 := it c35 r32
                    refine lv_iconst (v := 1) hx hb dX3_worked_254 (by decide) ?_
                    refine lv_goto (tgt := 259) hx hb dX3_worked_255 (by decide) ?_
                    exact J32 _ _ _ ls ⟨(Option.some.inj r32).symm, hX, hS, lv_sub hl [1, 2, 3, 4, 5, 6, 7, 0] rfl⟩
                  · replace r32 := ie c35 r32
                    refine lv_iload hx hb dX3_worked_247 (lv_at hl 5 rfl) ?_
                    refine lv_bipush (v := 42) hx hb dX3_worked_249 (by decide) ?_
                    refine lv_icmp_ne (tgt := 258) hx hb dX3_worked_251 (by decide) (fun c36 => ?_) (fun c36 => ?_)
                    · replace r32 := ie c36 r32
                      refine lv_iconst (v := 0) hx hb dX3_worked_258 (by decide) ?_
                      exact J32 _ _ _ ls ⟨(Option.some.inj r32).symm, hX, hS, lv_sub hl [1, 2, 3, 4, 5, 6, 7, 0] rfl⟩
                    · replace r32 := it c36 r32
                      refine lv_iconst (v := 1) hx hb dX3_worked_254 (by decide) ?_
                      refine lv_goto (tgt := 259) hx hb dX3_worked_255 (by decide) ?_
                      exact J32 _ _ _ ls ⟨(Option.some.inj r32).symm, hX, hS, lv_sub hl [1, 2, 3, 4, 5, 6, 7, 0] rfl⟩
            · refine lv_icmp_ne (tgt := 150) hx hb dX3_worked_132 (by decide) (fun c23 => ?_) (fun c23 => ?_)
              · replace r21 := ie c23 r21
                refine lv_iload hx hb dX3_worked_150 (lv_at hl 2 rfl) ?_
                refine lv_bipush (v := 62) hx hb dX3_worked_152 (by decide) ?_
                refine lv_icmp_ne (tgt := 172) hx hb dX3_worked_154 (by decide) (fun c24 => ?_) (fun c24 => ?_)
                · replace r21 := ie c24 r21
                  refine lv_iload hx hb dX3_worked_172 (lv_at hl 2 rfl) ?_
                  refine lv_bipush (v := 61) hx hb dX3_worked_174 (by decide) ?_
                  refine lv_icmp_ne (tgt := 194) hx hb dX3_worked_176 (by decide) (fun c25 => ?_) (fun c25 => ?_)
                  · replace r21 := ie c25 r21
                    refine lv_iload hx hb dX3_worked_194 (lv_at hl 2 rfl) ?_
                    refine lv_bipush (v := 38) hx hb dX3_worked_196 (by decide) ?_
                    refine lv_icmp_ne (tgt := 218) hx hb dX3_worked_198 (by decide) (fun c26 => ?_) (fun c26 => ?_)
                    · replace r21 := ie c26 r21
                      refine lv_iload hx hb dX3_worked_218 (lv_at hl 1 rfl) ?_
                      refine lv_iload hx hb dX3_worked_220 (lv_at hl 0 rfl) ?_
                      refine lv_iadd hx hb dX3_worked_222 ?_
                      refine lv_if_le (tgt := 230) hx hb dX3_worked_223 (by decide) (fun c27 => ?_) (fun c27 => ?_)
                      · replace r21 := it c27 r21
                        refine lv_iconst (v := 0) hx hb dX3_worked_230 (by decide) ?_
                        exact J21 _ _ _ ls ⟨(Option.some.inj r21).symm, hX, hS, lv_sub hl [4, 5, 6, 7, 2, 1, 0] rfl⟩
                      · replace r21 := ie c27 r21
                        refine lv_iconst (v := 1) hx hb dX3_worked_226 (by decide) ?_
                        refine lv_goto (tgt := 231) hx hb dX3_worked_227 (by decide) ?_
                        exact J21 _ _ _ ls ⟨(Option.some.inj r21).symm, hX, hS, lv_sub hl [4, 5, 6, 7, 2, 1, 0] rfl⟩
                    · replace r21 := it c26 r21
                      refine lv_iload hx hb dX3_worked_201 (lv_at hl 1 rfl) ?_
                      refine lv_iload hx hb dX3_worked_203 (lv_at hl 0 rfl) ?_
                      refine lv_iadd hx hb dX3_worked_205 ?_
                      refine lv_iconst (v := 2) hx hb dX3_worked_206 (by decide) ?_
                      refine lv_icmp_ne (tgt := 214) hx hb dX3_worked_207 (by decide) (fun c28 => ?_) (fun c28 => ?_)
                      · replace r21 := ie c28 r21
                        refine lv_iconst (v := 0) hx hb dX3_worked_214 (by decide) ?_
                        refine lv_goto (tgt := 231) hx hb dX3_worked_215 (by decide) ?_
                        exact J21 _ _ _ ls ⟨(Option.some.inj r21).symm, hX, hS, lv_sub hl [4, 5, 6, 7, 2, 1, 0] rfl⟩
                      · replace r21 := it c28 r21
                        refine lv_iconst (v := 1) hx hb dX3_worked_210 (by decide) ?_
                        refine lv_goto (tgt := 231) hx hb dX3_worked_211 (by decide) ?_
                        exact J21 _ _ _ ls ⟨(Option.some.inj r21).symm, hX, hS, lv_sub hl [4, 5, 6, 7, 2, 1, 0] rfl⟩
                  · replace r21 := it c25 r21
                    refine lv_iload hx hb dX3_worked_179 (lv_at hl 1 rfl) ?_
                    refine lv_iload hx hb dX3_worked_181 (lv_at hl 0 rfl) ?_
                    refine lv_icmp_ne (tgt := 190) hx hb dX3_worked_183 (by decide) (fun c29 => ?_) (fun c29 => ?_)
                    · replace r21 := ie c29 r21
                      refine lv_iconst (v := 0) hx hb dX3_worked_190 (by decide) ?_
                      refine lv_goto (tgt := 231) hx hb dX3_worked_191 (by decide) ?_
                      exact J21 _ _ _ ls ⟨(Option.some.inj r21).symm, hX, hS, lv_sub hl [4, 5, 6, 7, 2, 1, 0] rfl⟩
                    · replace r21 := it c29 r21
                      refine lv_iconst (v := 1) hx hb dX3_worked_186 (by decide) ?_
                      refine lv_goto (tgt := 231) hx hb dX3_worked_187 (by decide) ?_
                      exact J21 _ _ _ ls ⟨(Option.some.inj r21).symm, hX, hS, lv_sub hl [4, 5, 6, 7, 2, 1, 0] rfl⟩
                · replace r21 := it c24 r21
                  refine lv_iload hx hb dX3_worked_157 (lv_at hl 1 rfl) ?_
                  refine lv_iload hx hb dX3_worked_159 (lv_at hl 0 rfl) ?_
                  refine lv_icmp_le (tgt := 168) hx hb dX3_worked_161 (by decide) (fun c30 => ?_) (fun c30 => ?_)
                  · replace r21 := it c30 r21
                    refine lv_iconst (v := 0) hx hb dX3_worked_168 (by decide) ?_
                    refine lv_goto (tgt := 231) hx hb dX3_worked_169 (by decide) ?_
                    exact J21 _ _ _ ls ⟨(Option.some.inj r21).symm, hX, hS, lv_sub hl [4, 5, 6, 7, 2, 1, 0] rfl⟩
                  · replace r21 := ie c30 r21
                    refine lv_iconst (v := 1) hx hb dX3_worked_164 (by decide) ?_
                    refine lv_goto (tgt := 231) hx hb dX3_worked_165 (by decide) ?_
                    exact J21 _ _ _ ls ⟨(Option.some.inj r21).symm, hX, hS, lv_sub hl [4, 5, 6, 7, 2, 1, 0] rfl⟩
              · replace r21 := it c23 r21
                refine lv_iload hx hb dX3_worked_135 (lv_at hl 1 rfl) ?_
                refine lv_iload hx hb dX3_worked_137 (lv_at hl 0 rfl) ?_
                refine lv_icmp_ge (tgt := 146) hx hb dX3_worked_139 (by decide) (fun c31 => ?_) (fun c31 => ?_)
                · replace r21 := it c31 r21
                  refine lv_iconst (v := 0) hx hb dX3_worked_146 (by decide) ?_
                  refine lv_goto (tgt := 231) hx hb dX3_worked_147 (by decide) ?_
                  exact J21 _ _ _ ls ⟨(Option.some.inj r21).symm, hX, hS, lv_sub hl [4, 5, 6, 7, 2, 1, 0] rfl⟩
                · replace r21 := ie c31 r21
                  refine lv_iconst (v := 1) hx hb dX3_worked_142 (by decide) ?_
                  refine lv_goto (tgt := 231) hx hb dX3_worked_143 (by decide) ?_
                  exact J21 _ _ _ ls ⟨(Option.some.inj r21).symm, hX, hS, lv_sub hl [4, 5, 6, 7, 2, 1, 0] rfl⟩
          · replace r8 := it c18 r8
            refine lv_aload_n hx hb dX3_worked_80 rfl (lv_at hl 1 rfl) ?_
            refine m_ga (k := 47) (d := 0) C q1745 rfl (by decide) hX dX3_worked_81 ?_
            refine lv_iload_n hx hb dX3_worked_84 rfl (lv_at hl 3 rfl) ?_
            refine lv_iconst (v := 1) hx hb dX3_worked_85 (by decide) ?_
            refine lv_isub hx hb dX3_worked_86 ?_
            refine lv_iconst (v := 1) hx hb dX3_worked_87 (by decide) ?_
            refine lv_aload_n hx hb dX3_worked_88 rfl (lv_at hl 1 rfl) ?_
            refine m_ga (k := 47) (d := 0) C q1745 rfl (by decide) hX dX3_worked_89 ?_
            refine lv_iload_n hx hb dX3_worked_92 rfl (lv_at hl 3 rfl) ?_
            refine lv_iconst (v := 1) hx hb dX3_worked_93 (by decide) ?_
            refine lv_isub hx hb dX3_worked_94 ?_
            obtain ⟨x44, e44, r8⟩ := ob r8
            refine m_ia (k := 47) C rfl hX e44 dX3_worked_95 ?_
            refine lv_isub hx hb dX3_worked_96 ?_
            obtain ⟨x45, e45, r8⟩ := ob r8
            refine m_is (k := 47) C rfl hX hS e45 dX3_worked_97 (fun H locs hX hS => ?_)
            refine lv_goto (tgt := 299) hx hb dX3_worked_98 (by decide) ?_
            exact J8 _ _ _ ls ⟨(Option.some.inj r8).symm, hX, hS, lv_sub hl [1, 2, 3, 4] rfl⟩
        · replace r8 := ie c17 r8
          refine lv_aload_n hx hb dX3_worked_41 rfl (lv_at hl 1 rfl) ?_
          refine m_ga (k := 47) (d := 0) C q1745 rfl (by decide) hX dX3_worked_42 ?_
          refine lv_iload_n hx hb dX3_worked_45 rfl (lv_at hl 3 rfl) ?_
          refine lv_iload hx hb dX3_worked_46 (lv_at hl 0 rfl) ?_
          obtain ⟨x46, r46, r8⟩ := ob r8
          refine m_join (I := fun (t47 : Int32) H locs ls => x46 = t47 ∧ mX G t2.1 H ∧ va_S (zA G) s.heap H locs ∧ lv_has ls 10 [(0, .ref (zh G)), (1, .int a1), (2, .int t2.2.1), (3, .int t2.2.2)]) 65 (fun t47 => [.int t47, .int t2.2.1, .ref (zad G 47)]) (fun t47 H locs ls hi => ?_) (fun J46 => ?_)
          · obtain ⟨rfl, hX, hS, hl⟩ := hi
            obtain ⟨x50, e50, r8⟩ := ob r8
            refine m_is (k := 47) C rfl hX hS e50 dX3_worked_65 (fun H locs hX hS => ?_)
            refine lv_iinc (v := (t2.2.1 + (1 : Int32))) (k := 2) (lv' := [(2, .int (t2.2.1 + (1 : Int32))), (0, .ref (zh G)), (1, .int a1), (3, .int t2.2.2)]) hx hb dX3_worked_66 hl rfl rfl (by decide) rfl (fun ls hl => ?_)
            refine lv_goto (tgt := 299) hx hb dX3_worked_69 (by decide) ?_
            obtain ⟨g51, hg51⟩ : ∃ g, g = (t2.2.1 + (1 : Int32)) := ⟨_, rfl⟩
            rw [← hg51] at hl r8
            exact J8 _ _ _ ls ⟨(Option.some.inj r8).symm, hX, hS, lv_sub hl [1, 2, 0, 3] rfl⟩
          · refine lv_if_lt (tgt := 56) hx hb dX3_worked_48 (by decide) (fun c48 => ?_) (fun c48 => ?_)
            · replace r46 := it c48 r46
              refine lv_aload_n hx hb dX3_worked_56 rfl (lv_at hl 1 rfl) ?_
              refine m_ga (k := 46) (d := 0) C q1744 rfl (by decide) hX dX3_worked_57 ?_
              refine lv_iconst (v := -1) hx hb dX3_worked_60 (by decide) ?_
              refine lv_iload hx hb dX3_worked_61 (lv_at hl 0 rfl) ?_
              refine lv_isub hx hb dX3_worked_63 ?_
              obtain ⟨x49, e49, r46⟩ := ob r46
              refine m_ia (k := 46) C rfl hX e49 dX3_worked_64 ?_
              exact J46 _ _ _ ls ⟨(Option.some.inj r46).symm, hX, hS, lv_sub hl [1, 2, 3, 4] rfl⟩
            · replace r46 := ie c48 r46
              refine lv_iload hx hb dX3_worked_51 (lv_at hl 0 rfl) ?_
              refine lv_goto (tgt := 65) hx hb dX3_worked_53 (by decide) ?_
              exact J46 _ _ _ ls ⟨(Option.some.inj r46).symm, hX, hS, lv_sub hl [1, 2, 3, 4] rfl⟩

def fm_whyNow_l2  (t1 : mS × Int32) : Option ((mS × Int32) ⊕ ((mS × Int32) ⊕ (mS))) :=
  (if (gI t1.1 35) ≤ t1.2 then
  some (.inr (.inr t1.1))
  else
  (aI t1.1 36 t1.2).bind fun x7 =>
  (if x7 = 0 then
  (fm_worked t1.1 t1.2).bind fun x10 =>
  (if x10.2 = (1 : Int32) then
  some (.inr (.inl (x10.1, t1.2)))
  else
  some (.inl (x10.1, (t1.2 + (1 : Int32)))))
  else
  some (.inl (t1.1, (t1.2 + (1 : Int32))))))
def fm_whyNow (S : mS) : Option (mS × Int32) :=
  (loopO fm_whyNow_l2 1000000 (S, (0 : Int32))).bind (sumK (fun t4 =>
  some (t4.1, t4.2)) (fun t5 =>
  some (t5, (-4 : Int32))))
set_option maxHeartbeats 4000000 in
set_option maxRecDepth 100000 in
theorem cm_whyNow (l : Launch) (G : mGh) (hG : mOk G) (S : mS)  {S' : mS} {r : Int32} (hr : fm_whyNow S = some (S', r)) : Met l yX3_whyNow (ws_ yX3_whyNow cX3_whyNow 2 (some .int)) ({ frames := 2, cells := 0, slots := 0, locals := 57 } : Room) (mPc G [] S) (mQi G r S') 0 0 (zA G) := by
  refine m_met cX3_whyNow (by decide) rfl hG (Nat.le_of_ble_eq_true rfl) (fun p e s m args below meth c C hret hlk ls hX hl => ?_)
  have hx := C.1.1
  have hb := C.1.2.1
  have hown := C.1.2.2.2.1
  have hts := C.1.2.2.2.2
  have hS : va_S (zA G) s.heap s.heap [] := va_S.rf
  have hl : lv_has ls 2 [(0, .ref (zh G))] := hl
  unfold fm_whyNow at hr
  refine lv_iconst (v := 0) hx hb dX3_whyNow_0 (by decide) ?_
  refine lv_istore_n (lv' := [(1, .int (0 : Int32)), (0, .ref (zh G))]) hx hb dX3_whyNow_1 rfl hl (by decide) rfl (fun ls hl => ?_)
  obtain ⟨z3, e3, hr⟩ := ob hr
  refine m_join (I := fun (t4 : mS × Int32) H locs ls => z3 = .inl t4 ∧ mX G t4.1 H ∧ va_S (zA G) s.heap H locs ∧ lv_has ls 2 [(1, .int t4.2)]) 28 (fun _ => []) (fun t4 H locs ls hi => ?_) (fun J1_28 => ?_)
  · obtain ⟨rfl, hX, hS, hl⟩ := hi
    replace hr := sk_l hr
    refine lv_iload_n hx hb dX3_whyNow_28 rfl (lv_at hl 0 rfl) ?_
    exact m_riw (C := C) hret hlk hX hS (Option.some.inj hr) dX3_whyNow_29
  refine m_join (I := fun (t5 : mS) H locs ls => z3 = .inr t5 ∧ mX G t5 H ∧ va_S (zA G) s.heap H locs ∧ lv_has ls 2 []) 36 (fun _ => []) (fun t5 H locs ls hi => ?_) (fun J1_36 => ?_)
  · obtain ⟨rfl, hX, hS, hl⟩ := hi
    replace hr := sk_r hr
    refine lv_bipush (v := -4) hx hb dX3_whyNow_36 (by decide) ?_
    exact m_riw (C := C) hret hlk hX hS (Option.some.inj hr) dX3_whyNow_38
  refine m_loop e3 (fun (t1 : mS × Int32) H locs ls => mX G t1.1 H ∧ va_S (zA G) s.heap H locs ∧ lv_has ls 2 [(0, .ref (zh G)), (1, .int t1.2)]) 2 ⟨hX, hS, lv_sub hl [1, 0] rfl⟩ (fun t1 y1 b1 w1 k1 H locs ls hi => ?_)
  obtain ⟨hX, hS, hl⟩ := hi
  unfold fm_whyNow_l2 at b1
  refine lv_iload_n hx hb dX3_whyNow_2 rfl (lv_at hl 1 rfl) ?_
  refine lv_aload_n hx hb dX3_whyNow_3 rfl (lv_at hl 0 rfl) ?_
  refine m_gi (k := 35) C q1733 rfl hX dX3_whyNow_4 ?_
  refine lv_icmp_ge (tgt := 36) hx hb dX3_whyNow_7 (by decide) (fun c6 => ?_) (fun c6 => ?_)
  · replace b1 := it c6 b1
    replace b1 := lx b1 w1
    exact J1_36 _ _ _ ls ⟨b1.symm, hX, hS, lv_sub hl [] rfl⟩
  · replace b1 := ie c6 b1
    refine lv_aload_n hx hb dX3_whyNow_10 rfl (lv_at hl 0 rfl) ?_
    refine m_ga (k := 36) (d := 0) C q1734 rfl (by decide) hX dX3_whyNow_11 ?_
    refine lv_iload_n hx hb dX3_whyNow_14 rfl (lv_at hl 1 rfl) ?_
    obtain ⟨x7, e7, b1⟩ := ob b1
    refine m_ia (k := 36) C rfl hX e7 dX3_whyNow_15 ?_
    refine lv_if_ne (tgt := 30) hx hb dX3_whyNow_16 (by decide) (fun c8 => ?_) (fun c8 => ?_)
    · replace b1 := ie c8 b1
      refine lv_iinc (v := (t1.2 + (1 : Int32))) (k := 1) (lv' := [(1, .int (t1.2 + (1 : Int32))), (0, .ref (zh G))]) hx hb dX3_whyNow_30 hl rfl rfl (by decide) rfl (fun ls hl => ?_)
      refine lv_goto (tgt := 2) hx hb dX3_whyNow_33 (by decide) ?_
      obtain ⟨g9, hg9⟩ : ∃ g, g = (t1.2 + (1 : Int32)) := ⟨_, rfl⟩
      rw [← hg9] at hl b1
      exact k1 _ (Option.some.inj b1).symm _ _ ls ⟨hX, hS, lv_sub hl [1, 0] rfl⟩
    · replace b1 := it c8 b1
      refine lv_aload_n hx hb dX3_whyNow_19 rfl (lv_at hl 0 rfl) ?_
      refine lv_iload_n hx hb dX3_whyNow_20 rfl (lv_at hl 1 rfl) ?_
      obtain ⟨x10, e10, b1⟩ := ob b1
      refine m_cvi (As := [.int t1.2]) (rest := []) C hX hS hl.1 (cm_worked l G hG t1.1 t1.2 e10) (cwV 1 hts (lw_V q2225 q2227 qs83 q109 q2228) rfl rfl rfl (by decide +kernel) ⟨Nat.le_of_ble_eq_true rfl, Nat.le_of_ble_eq_true rfl⟩) rfl rfl (Nat.le_of_ble_eq_true rfl) dX3_whyNow_21 (fun H locs hX hS => ?_)
      refine lv_iconst (v := 1) hx hb dX3_whyNow_24 (by decide) ?_
      refine lv_icmp_ne (tgt := 30) hx hb dX3_whyNow_25 (by decide) (fun c11 => ?_) (fun c11 => ?_)
      · replace b1 := ie c11 b1
        refine lv_iinc (v := (t1.2 + (1 : Int32))) (k := 1) (lv' := [(1, .int (t1.2 + (1 : Int32))), (0, .ref (zh G))]) hx hb dX3_whyNow_30 hl rfl rfl (by decide) rfl (fun ls hl => ?_)
        refine lv_goto (tgt := 2) hx hb dX3_whyNow_33 (by decide) ?_
        obtain ⟨g12, hg12⟩ : ∃ g, g = (t1.2 + (1 : Int32)) := ⟨_, rfl⟩
        rw [← hg12] at hl b1
        exact k1 _ (Option.some.inj b1).symm _ _ ls ⟨hX, hS, lv_sub hl [1, 0] rfl⟩
      · replace b1 := it c11 b1
        replace b1 := lx b1 w1
        exact J1_28 _ _ _ ls ⟨b1.symm, hX, hS, lv_sub hl [1] rfl⟩

def fm_why (S : mS) (a1 : Int32) (a2 : Int32) (a3 : Int32) : Option (mS × Int32) :=
  (fm_isAsked S a1 a2 a3).bind fun x1 =>
  (if x1.2 = 0 then
  some (x1.1, (-1 : Int32))
  else
  (fm_whyNow x1.1).bind fun x3 =>
  some (x3.1, x3.2))
set_option maxHeartbeats 4000000 in
set_option maxRecDepth 100000 in
theorem cm_why (l : Launch) (G : mGh) (hG : mOk G) (S : mS) (a1 : Int32) (a2 : Int32) (a3 : Int32) {S' : mS} {r : Int32} (hr : fm_why S a1 a2 a3 = some (S', r)) : Met l yX3_why (ws_ yX3_why cX3_why 4 (some .int)) ({ frames := 4, cells := 0, slots := 0, locals := 93 } : Room) (mPc G [.int a1, .int a2, .int a3] S) (mQi G r S') 0 0 (zA G) := by
  refine m_met cX3_why (by decide) rfl hG (Nat.le_of_ble_eq_true rfl) (fun p e s m args below meth c C hret hlk ls hX hl => ?_)
  have hx := C.1.1
  have hb := C.1.2.1
  have hown := C.1.2.2.2.1
  have hts := C.1.2.2.2.2
  have hS : va_S (zA G) s.heap s.heap [] := va_S.rf
  have hl : lv_has ls 4 [(0, .ref (zh G)), (1, .int a1), (2, .int a2), (3, .int a3)] := hl
  unfold fm_why at hr
  refine lv_aload_n hx hb dX3_why_0 rfl (lv_at hl 0 rfl) ?_
  refine lv_iload_n hx hb dX3_why_1 rfl (lv_at hl 1 rfl) ?_
  refine lv_iload_n hx hb dX3_why_2 rfl (lv_at hl 2 rfl) ?_
  refine lv_iload_n hx hb dX3_why_3 rfl (lv_at hl 3 rfl) ?_
  obtain ⟨x1, e1, hr⟩ := ob hr
  refine m_cvi (As := [.int a1, .int a2, .int a3]) (rest := []) C hX hS hl.1 (cm_isAsked l G hG S a1 a2 a3 e1) (cwV 3 hts (lw_V q2213 q2215 qs80 q109 q2216) rfl rfl rfl (by decide +kernel) ⟨Nat.le_of_ble_eq_true rfl, Nat.le_of_ble_eq_true rfl⟩) rfl rfl (Nat.le_of_ble_eq_true rfl) dX3_why_4 (fun H locs hX hS => ?_)
  refine lv_if_eq (tgt := 17) hx hb dX3_why_7 (by decide) (fun c2 => ?_) (fun c2 => ?_)
  · replace hr := it c2 hr
    refine lv_iconst (v := -1) hx hb dX3_why_17 (by decide) ?_
    exact m_riw (C := C) hret hlk hX hS (Option.some.inj hr) dX3_why_18
  · replace hr := ie c2 hr
    refine lv_aload_n hx hb dX3_why_10 rfl (lv_at hl 0 rfl) ?_
    obtain ⟨x3, e3, hr⟩ := ob hr
    refine m_cvi (As := []) (rest := []) C hX hS hl.1 (cm_whyNow l G hG x1.1  e3) (cwV 0 hts (lw_V q2221 q2223 qs82 q109 q2224) rfl rfl rfl (by decide +kernel) ⟨Nat.le_of_ble_eq_true rfl, Nat.le_of_ble_eq_true rfl⟩) rfl rfl (Nat.le_of_ble_eq_true rfl) dX3_why_11 (fun H locs hX hS => ?_)
    refine lv_goto (tgt := 18) hx hb dX3_why_14 (by decide) ?_
    exact m_riw (C := C) hret hlk hX hS (Option.some.inj hr) dX3_why_18

def fm_payNow_l4  (t1 : mS × Int32 × Int32) : Option ((mS × Int32 × Int32) ⊕ (mS × Int32)) :=
  (if (gI t1.1 35) ≤ t1.2.2 then
  some (.inr (t1.1, t1.2.1))
  else
  (aI t1.1 36 t1.2.2).bind fun x5 =>
  (((if x5 = (1 : Int32) then
  (fm_worked t1.1 t1.2.2).bind fun x9 =>
  some (x9.1, x9.2)
  else
  some (t1.1, (0 : Int32))) : Option (mS × Int32))).bind (fun x6 =>
  some (.inl (x6.1, (t1.2.1 + x6.2), (t1.2.2 + (1 : Int32))))))
def fm_payNow (S : mS) : Option (mS × Int32) :=
  (loopO fm_payNow_l4 1000000 (S, (0 : Int32), (0 : Int32))).bind (fun z3 =>
  some (z3.1, (fm_held z3.2 (0 : Int32) (1000000 : Int32))))
set_option maxHeartbeats 4000000 in
set_option maxRecDepth 100000 in
theorem cm_payNow (l : Launch) (G : mGh) (hG : mOk G) (S : mS)  {S' : mS} {r : Int32} (hr : fm_payNow S = some (S', r)) : Met l yX3_payNow (ws_ yX3_payNow cX3_payNow 3 (some .int)) ({ frames := 2, cells := 0, slots := 0, locals := 57 } : Room) (mPc G [] S) (mQi G r S') 0 0 (zA G) := by
  refine m_met cX3_payNow (by decide) rfl hG (Nat.le_of_ble_eq_true rfl) (fun p e s m args below meth c C hret hlk ls hX hl => ?_)
  have hx := C.1.1
  have hb := C.1.2.1
  have hown := C.1.2.2.2.1
  have hts := C.1.2.2.2.2
  have hS : va_S (zA G) s.heap s.heap [] := va_S.rf
  have hl : lv_has ls 3 [(0, .ref (zh G))] := hl
  unfold fm_payNow at hr
  refine lv_iconst (v := 0) hx hb dX3_payNow_0 (by decide) ?_
  refine lv_istore_n (lv' := [(1, .int (0 : Int32)), (0, .ref (zh G))]) hx hb dX3_payNow_1 rfl hl (by decide) rfl (fun ls hl => ?_)
  refine lv_iconst (v := 0) hx hb dX3_payNow_2 (by decide) ?_
  refine lv_istore_n (lv' := [(2, .int (0 : Int32)), (1, .int (0 : Int32)), (0, .ref (zh G))]) hx hb dX3_payNow_3 rfl hl (by decide) rfl (fun ls hl => ?_)
  obtain ⟨z3, e3, hr⟩ := ob hr
  refine m_join (I := fun (_ : Unit) H locs ls => mX G z3.1 H ∧ va_S (zA G) s.heap H locs ∧ lv_has ls 3 [(1, .int z3.2)]) 40 (fun _ => []) (fun _ H locs ls hi => ?_) (fun J1_40 => ?_)
  · obtain ⟨hX, hS, hl⟩ := hi
    refine lv_iload_n hx hb dX3_payNow_40 rfl (lv_at hl 0 rfl) ?_
    refine lv_iconst (v := 0) hx hb dX3_payNow_41 (by decide) ?_
    refine lv_ldcw hx hb hown (hts _ q2242) dX3_payNow_42 ?_
    refine m_csi (As := [.int z3.2, .int (0 : Int32), .int (1000000 : Int32)]) (rest := []) C hX hS hl.1 (cm_held l z3.2 (0 : Int32) (1000000 : Int32) rfl) (va_cwS 3 hts (lw_S q2059 q2060 q109 q2061) rfl rfl rfl (by decide +kernel) ⟨Nat.le_of_ble_eq_true rfl, Nat.le_of_ble_eq_true rfl⟩) rfl rfl (Nat.le_of_ble_eq_true rfl) dX3_payNow_45 (fun H locs hX hS => ?_)
    exact m_riw (C := C) hret hlk hX hS (Option.some.inj hr) dX3_payNow_48
  refine m_loop e3 (fun (t1 : mS × Int32 × Int32) H locs ls => mX G t1.1 H ∧ va_S (zA G) s.heap H locs ∧ lv_has ls 3 [(0, .ref (zh G)), (1, .int t1.2.1), (2, .int t1.2.2)]) 4 ⟨hX, hS, lv_sub hl [2, 1, 0] rfl⟩ (fun t1 y1 b1 w1 k1 H locs ls hi => ?_)
  obtain ⟨hX, hS, hl⟩ := hi
  unfold fm_payNow_l4 at b1
  refine lv_iload_n hx hb dX3_payNow_4 rfl (lv_at hl 2 rfl) ?_
  refine lv_aload_n hx hb dX3_payNow_5 rfl (lv_at hl 0 rfl) ?_
  refine m_gi (k := 35) C q1733 rfl hX dX3_payNow_6 ?_
  refine lv_icmp_ge (tgt := 40) hx hb dX3_payNow_9 (by decide) (fun c4 => ?_) (fun c4 => ?_)
  · replace b1 := it c4 b1
    replace b1 := lx b1 w1
    subst b1
    exact J1_40 () _ _ ls ⟨hX, hS, lv_sub hl [1] rfl⟩
  · replace b1 := ie c4 b1
    refine lv_iload_n hx hb dX3_payNow_12 rfl (lv_at hl 1 rfl) ?_
    refine lv_aload_n hx hb dX3_payNow_13 rfl (lv_at hl 0 rfl) ?_
    refine m_ga (k := 36) (d := 0) C q1734 rfl (by decide) hX dX3_payNow_14 ?_
    refine lv_iload_n hx hb dX3_payNow_17 rfl (lv_at hl 2 rfl) ?_
    obtain ⟨x5, e5, b1⟩ := ob b1
    refine m_ia (k := 36) C rfl hX e5 dX3_payNow_18 ?_
    refine lv_iconst (v := 1) hx hb dX3_payNow_19 (by decide) ?_
    obtain ⟨x6, r6, b1⟩ := ob b1
    refine m_join (I := fun (t7 : mS × Int32) H locs ls => x6 = t7 ∧ mX G t7.1 H ∧ va_S (zA G) s.heap H locs ∧ lv_has ls 3 [(0, .ref (zh G)), (2, .int t1.2.2)]) 32 (fun t7 => [.int t7.2, .int t1.2.1]) (fun t7 H locs ls hi => ?_) (fun J6 => ?_)
    · obtain ⟨rfl, hX, hS, hl⟩ := hi
      refine lv_iadd hx hb dX3_payNow_32 ?_
      refine lv_istore_n (lv' := [(1, .int (t1.2.1 + x6.2)), (0, .ref (zh G)), (2, .int t1.2.2)]) hx hb dX3_payNow_33 rfl hl (by decide) rfl (fun ls hl => ?_)
      refine lv_iinc (v := (t1.2.2 + (1 : Int32))) (k := 2) (lv' := [(2, .int (t1.2.2 + (1 : Int32))), (1, .int (t1.2.1 + x6.2)), (0, .ref (zh G))]) hx hb dX3_payNow_34 hl rfl rfl (by decide) rfl (fun ls hl => ?_)
      refine lv_goto (tgt := 4) hx hb dX3_payNow_37 (by decide) ?_
      obtain ⟨g10, hg10⟩ : ∃ g, g = (t1.2.1 + x6.2) := ⟨_, rfl⟩
      rw [← hg10] at hl b1
      obtain ⟨g11, hg11⟩ : ∃ g, g = (t1.2.2 + (1 : Int32)) := ⟨_, rfl⟩
      rw [← hg11] at hl b1
      exact k1 _ (Option.some.inj b1).symm _ _ ls ⟨hX, hS, lv_sub hl [2, 1, 0] rfl⟩
    · refine lv_icmp_ne (tgt := 31) hx hb dX3_payNow_20 (by decide) (fun c8 => ?_) (fun c8 => ?_)
      · replace r6 := ie c8 r6
        refine lv_iconst (v := 0) hx hb dX3_payNow_31 (by decide) ?_
        exact J6 _ _ _ ls ⟨(Option.some.inj r6).symm, hX, hS, lv_sub hl [0, 2] rfl⟩
      · replace r6 := it c8 r6
        refine lv_aload_n hx hb dX3_payNow_23 rfl (lv_at hl 0 rfl) ?_
        refine lv_iload_n hx hb dX3_payNow_24 rfl (lv_at hl 2 rfl) ?_
        obtain ⟨x9, e9, r6⟩ := ob r6
        refine m_cvi (As := [.int t1.2.2]) (rest := [.int t1.2.1]) C hX hS hl.1 (cm_worked l G hG t1.1 t1.2.2 e9) (cwV 1 hts (lw_V q2225 q2227 qs83 q109 q2228) rfl rfl rfl (by decide +kernel) ⟨Nat.le_of_ble_eq_true rfl, Nat.le_of_ble_eq_true rfl⟩) rfl rfl (Nat.le_of_ble_eq_true rfl) dX3_payNow_25 (fun H locs hX hS => ?_)
        refine lv_goto (tgt := 32) hx hb dX3_payNow_28 (by decide) ?_
        exact J6 _ _ _ ls ⟨(Option.some.inj r6).symm, hX, hS, lv_sub hl [0, 2] rfl⟩

def fm_pay (S : mS) (a1 : Int32) (a2 : Int32) (a3 : Int32) : Option (mS × Int32) :=
  (fm_isAsked S a1 a2 a3).bind fun x1 =>
  (if x1.2 = 0 then
  some (x1.1, (-1 : Int32))
  else
  (fm_payNow x1.1).bind fun x3 =>
  some (x3.1, x3.2))
set_option maxHeartbeats 4000000 in
set_option maxRecDepth 100000 in
theorem cm_pay (l : Launch) (G : mGh) (hG : mOk G) (S : mS) (a1 : Int32) (a2 : Int32) (a3 : Int32) {S' : mS} {r : Int32} (hr : fm_pay S a1 a2 a3 = some (S', r)) : Met l yX3_pay (ws_ yX3_pay cX3_pay 4 (some .int)) ({ frames := 4, cells := 0, slots := 0, locals := 93 } : Room) (mPc G [.int a1, .int a2, .int a3] S) (mQi G r S') 0 0 (zA G) := by
  refine m_met cX3_pay (by decide) rfl hG (Nat.le_of_ble_eq_true rfl) (fun p e s m args below meth c C hret hlk ls hX hl => ?_)
  have hx := C.1.1
  have hb := C.1.2.1
  have hown := C.1.2.2.2.1
  have hts := C.1.2.2.2.2
  have hS : va_S (zA G) s.heap s.heap [] := va_S.rf
  have hl : lv_has ls 4 [(0, .ref (zh G)), (1, .int a1), (2, .int a2), (3, .int a3)] := hl
  unfold fm_pay at hr
  refine lv_aload_n hx hb dX3_pay_0 rfl (lv_at hl 0 rfl) ?_
  refine lv_iload_n hx hb dX3_pay_1 rfl (lv_at hl 1 rfl) ?_
  refine lv_iload_n hx hb dX3_pay_2 rfl (lv_at hl 2 rfl) ?_
  refine lv_iload_n hx hb dX3_pay_3 rfl (lv_at hl 3 rfl) ?_
  obtain ⟨x1, e1, hr⟩ := ob hr
  refine m_cvi (As := [.int a1, .int a2, .int a3]) (rest := []) C hX hS hl.1 (cm_isAsked l G hG S a1 a2 a3 e1) (cwV 3 hts (lw_V q2213 q2215 qs80 q109 q2216) rfl rfl rfl (by decide +kernel) ⟨Nat.le_of_ble_eq_true rfl, Nat.le_of_ble_eq_true rfl⟩) rfl rfl (Nat.le_of_ble_eq_true rfl) dX3_pay_4 (fun H locs hX hS => ?_)
  refine lv_if_eq (tgt := 17) hx hb dX3_pay_7 (by decide) (fun c2 => ?_) (fun c2 => ?_)
  · replace hr := it c2 hr
    refine lv_iconst (v := -1) hx hb dX3_pay_17 (by decide) ?_
    exact m_riw (C := C) hret hlk hX hS (Option.some.inj hr) dX3_pay_18
  · replace hr := ie c2 hr
    refine lv_aload_n hx hb dX3_pay_10 rfl (lv_at hl 0 rfl) ?_
    obtain ⟨x3, e3, hr⟩ := ob hr
    refine m_cvi (As := []) (rest := []) C hX hS hl.1 (cm_payNow l G hG x1.1  e3) (cwV 0 hts (lw_V q2238 q2240 qs84 q109 q2241) rfl rfl rfl (by decide +kernel) ⟨Nat.le_of_ble_eq_true rfl, Nat.le_of_ble_eq_true rfl⟩) rfl rfl (Nat.le_of_ble_eq_true rfl) dX3_pay_11 (fun H locs hX hS => ?_)
    refine lv_goto (tgt := 18) hx hb dX3_pay_14 (by decide) ?_
    exact m_riw (C := C) hret hlk hX hS (Option.some.inj hr) dX3_pay_18

def fm_askedNow_k31 (t1 : mS × Int32 × Int32) (x6 : mS × Int32) : Option ((mS × Int32 × Int32) ⊕ (mS × Int32)) :=
  (((if x6.2 ≤ t1.2.1 then
  some t1.2.1
  else
  some x6.2) : Option (Int32))).bind (fun x10 =>
  some (.inl (x6.1, x10, (t1.2.2 + (1 : Int32)))))
def fm_askedNow_l4  (t1 : mS × Int32 × Int32) : Option ((mS × Int32 × Int32) ⊕ (mS × Int32)) :=
  (if (gI t1.1 35) ≤ t1.2.2 then
  some (.inr (t1.1, t1.2.1))
  else
  (aI t1.1 36 t1.2.2).bind fun x5 =>
  (((if x5 = (2 : Int32) then
  (fm_worked t1.1 t1.2.2).bind fun x9 =>
  some (x9.1, x9.2)
  else
  some (t1.1, (1 : Int32))) : Option (mS × Int32))).bind (fun x6 => fm_askedNow_k31 t1 x6))
def fm_askedNow (S : mS) : Option (mS × Int32) :=
  (loopO fm_askedNow_l4 1000000 (S, (1 : Int32), (0 : Int32))).bind (fun z3 =>
  some (z3.1, (fm_held z3.2 (1 : Int32) (8 : Int32))))
set_option maxHeartbeats 4000000 in
set_option maxRecDepth 100000 in
theorem cm_askedNow (l : Launch) (G : mGh) (hG : mOk G) (S : mS)  {S' : mS} {r : Int32} (hr : fm_askedNow S = some (S', r)) : Met l yX3_askedNow (ws_ yX3_askedNow cX3_askedNow 4 (some .int)) ({ frames := 2, cells := 0, slots := 0, locals := 57 } : Room) (mPc G [] S) (mQi G r S') 0 0 (zA G) := by
  refine m_met cX3_askedNow (by decide) rfl hG (Nat.le_of_ble_eq_true rfl) (fun p e s m args below meth c C hret hlk ls hX hl => ?_)
  have hx := C.1.1
  have hb := C.1.2.1
  have hown := C.1.2.2.2.1
  have hts := C.1.2.2.2.2
  have hS : va_S (zA G) s.heap s.heap [] := va_S.rf
  have hl : lv_has ls 4 [(0, .ref (zh G))] := hl
  unfold fm_askedNow at hr
  refine lv_iconst (v := 1) hx hb dX3_askedNow_0 (by decide) ?_
  refine lv_istore_n (lv' := [(1, .int (1 : Int32)), (0, .ref (zh G))]) hx hb dX3_askedNow_1 rfl hl (by decide) rfl (fun ls hl => ?_)
  refine lv_iconst (v := 0) hx hb dX3_askedNow_2 (by decide) ?_
  refine lv_istore_n (lv' := [(2, .int (0 : Int32)), (1, .int (1 : Int32)), (0, .ref (zh G))]) hx hb dX3_askedNow_3 rfl hl (by decide) rfl (fun ls hl => ?_)
  obtain ⟨z3, e3, hr⟩ := ob hr
  refine m_join (I := fun (_ : Unit) H locs ls => mX G z3.1 H ∧ va_S (zA G) s.heap H locs ∧ lv_has ls 4 [(1, .int z3.2)]) 49 (fun _ => []) (fun _ H locs ls hi => ?_) (fun J1_49 => ?_)
  · obtain ⟨hX, hS, hl⟩ := hi
    refine lv_iload_n hx hb dX3_askedNow_49 rfl (lv_at hl 0 rfl) ?_
    refine lv_iconst (v := 1) hx hb dX3_askedNow_50 (by decide) ?_
    refine lv_bipush (v := 8) hx hb dX3_askedNow_51 (by decide) ?_
    refine m_csi (As := [.int z3.2, .int (1 : Int32), .int (8 : Int32)]) (rest := []) C hX hS hl.1 (cm_held l z3.2 (1 : Int32) (8 : Int32) rfl) (va_cwS 3 hts (lw_S q2059 q2060 q109 q2061) rfl rfl rfl (by decide +kernel) ⟨Nat.le_of_ble_eq_true rfl, Nat.le_of_ble_eq_true rfl⟩) rfl rfl (Nat.le_of_ble_eq_true rfl) dX3_askedNow_53 (fun H locs hX hS => ?_)
    exact m_riw (C := C) hret hlk hX hS (Option.some.inj hr) dX3_askedNow_56
  refine m_loop e3 (fun (t1 : mS × Int32 × Int32) H locs ls => mX G t1.1 H ∧ va_S (zA G) s.heap H locs ∧ lv_has ls 4 [(0, .ref (zh G)), (1, .int t1.2.1), (2, .int t1.2.2)]) 4 ⟨hX, hS, lv_sub hl [2, 1, 0] rfl⟩ (fun t1 y1 b1 w1 k1 H locs ls hi => ?_)
  obtain ⟨hX, hS, hl⟩ := hi
  unfold fm_askedNow_l4 at b1
  refine lv_iload_n hx hb dX3_askedNow_4 rfl (lv_at hl 2 rfl) ?_
  refine lv_aload_n hx hb dX3_askedNow_5 rfl (lv_at hl 0 rfl) ?_
  refine m_gi (k := 35) C q1733 rfl hX dX3_askedNow_6 ?_
  refine lv_icmp_ge (tgt := 49) hx hb dX3_askedNow_9 (by decide) (fun c4 => ?_) (fun c4 => ?_)
  · replace b1 := it c4 b1
    replace b1 := lx b1 w1
    subst b1
    exact J1_49 () _ _ ls ⟨hX, hS, lv_sub hl [1] rfl⟩
  · replace b1 := ie c4 b1
    refine lv_aload_n hx hb dX3_askedNow_12 rfl (lv_at hl 0 rfl) ?_
    refine m_ga (k := 36) (d := 0) C q1734 rfl (by decide) hX dX3_askedNow_13 ?_
    refine lv_iload_n hx hb dX3_askedNow_16 rfl (lv_at hl 2 rfl) ?_
    obtain ⟨x5, e5, b1⟩ := ob b1
    refine m_ia (k := 36) C rfl hX e5 dX3_askedNow_17 ?_
    refine lv_iconst (v := 2) hx hb dX3_askedNow_18 (by decide) ?_
    obtain ⟨x6, r6, b1⟩ := ob b1
    refine m_join (I := fun (t7 : mS × Int32) H locs ls => x6 = t7 ∧ mX G t7.1 H ∧ va_S (zA G) s.heap H locs ∧ lv_has ls 4 [(0, .ref (zh G)), (1, .int t1.2.1), (2, .int t1.2.2)]) 31 (fun t7 => [.int t7.2]) (fun t7 H locs ls hi => ?_) (fun J6 => ?_)
    · obtain ⟨rfl, hX, hS, hl⟩ := hi
      unfold fm_askedNow_k31 at b1
      refine lv_istore_n (lv' := [(3, .int x6.2), (0, .ref (zh G)), (1, .int t1.2.1), (2, .int t1.2.2)]) hx hb dX3_askedNow_31 rfl hl (by decide) rfl (fun ls hl => ?_)
      refine lv_iload_n hx hb dX3_askedNow_32 rfl (lv_at hl 0 rfl) ?_
      refine lv_iload_n hx hb dX3_askedNow_33 rfl (lv_at hl 2 rfl) ?_
      obtain ⟨x10, r10, b1⟩ := ob b1
      refine m_join (I := fun (t11 : Int32) H locs ls => x10 = t11 ∧ mX G x6.1 H ∧ va_S (zA G) s.heap H locs ∧ lv_has ls 4 [(0, .ref (zh G)), (2, .int t1.2.2)]) 42 (fun t11 => [.int t11]) (fun t11 H locs ls hi => ?_) (fun J10 => ?_)
      · obtain ⟨rfl, hX, hS, hl⟩ := hi
        refine lv_istore_n (lv' := [(1, .int x10), (0, .ref (zh G)), (2, .int t1.2.2)]) hx hb dX3_askedNow_42 rfl hl (by decide) rfl (fun ls hl => ?_)
        refine lv_iinc (v := (t1.2.2 + (1 : Int32))) (k := 2) (lv' := [(2, .int (t1.2.2 + (1 : Int32))), (1, .int x10), (0, .ref (zh G))]) hx hb dX3_askedNow_43 hl rfl rfl (by decide) rfl (fun ls hl => ?_)
        refine lv_goto (tgt := 4) hx hb dX3_askedNow_46 (by decide) ?_
        obtain ⟨g13, hg13⟩ : ∃ g, g = (t1.2.2 + (1 : Int32)) := ⟨_, rfl⟩
        rw [← hg13] at hl b1
        exact k1 _ (Option.some.inj b1).symm _ _ ls ⟨hX, hS, lv_sub hl [2, 1, 0] rfl⟩
      · refine lv_icmp_le (tgt := 41) hx hb dX3_askedNow_34 (by decide) (fun c12 => ?_) (fun c12 => ?_)
        · replace r10 := it c12 r10
          refine lv_iload_n hx hb dX3_askedNow_41 rfl (lv_at hl 2 rfl) ?_
          exact J10 _ _ _ ls ⟨(Option.some.inj r10).symm, hX, hS, lv_sub hl [1, 3] rfl⟩
        · replace r10 := ie c12 r10
          refine lv_iload_n hx hb dX3_askedNow_37 rfl (lv_at hl 0 rfl) ?_
          refine lv_goto (tgt := 42) hx hb dX3_askedNow_38 (by decide) ?_
          exact J10 _ _ _ ls ⟨(Option.some.inj r10).symm, hX, hS, lv_sub hl [1, 3] rfl⟩
    · refine lv_icmp_ne (tgt := 30) hx hb dX3_askedNow_19 (by decide) (fun c8 => ?_) (fun c8 => ?_)
      · replace r6 := ie c8 r6
        refine lv_iconst (v := 1) hx hb dX3_askedNow_30 (by decide) ?_
        exact J6 _ _ _ ls ⟨(Option.some.inj r6).symm, hX, hS, hl⟩
      · replace r6 := it c8 r6
        refine lv_aload_n hx hb dX3_askedNow_22 rfl (lv_at hl 0 rfl) ?_
        refine lv_iload_n hx hb dX3_askedNow_23 rfl (lv_at hl 2 rfl) ?_
        obtain ⟨x9, e9, r6⟩ := ob r6
        refine m_cvi (As := [.int t1.2.2]) (rest := []) C hX hS hl.1 (cm_worked l G hG t1.1 t1.2.2 e9) (cwV 1 hts (lw_V q2225 q2227 qs83 q109 q2228) rfl rfl rfl (by decide +kernel) ⟨Nat.le_of_ble_eq_true rfl, Nat.le_of_ble_eq_true rfl⟩) rfl rfl (Nat.le_of_ble_eq_true rfl) dX3_askedNow_24 (fun H locs hX hS => ?_)
        refine lv_goto (tgt := 31) hx hb dX3_askedNow_27 (by decide) ?_
        exact J6 _ _ _ ls ⟨(Option.some.inj r6).symm, hX, hS, hl⟩

def fm_asked (S : mS) (a1 : Int32) (a2 : Int32) (a3 : Int32) : Option (mS × Int32) :=
  (fm_isAsked S a1 a2 a3).bind fun x1 =>
  (if x1.2 = 0 then
  some (x1.1, (-1 : Int32))
  else
  (fm_askedNow x1.1).bind fun x3 =>
  some (x3.1, x3.2))
set_option maxHeartbeats 4000000 in
set_option maxRecDepth 100000 in
theorem cm_asked (l : Launch) (G : mGh) (hG : mOk G) (S : mS) (a1 : Int32) (a2 : Int32) (a3 : Int32) {S' : mS} {r : Int32} (hr : fm_asked S a1 a2 a3 = some (S', r)) : Met l yX3_asked (ws_ yX3_asked cX3_asked 4 (some .int)) ({ frames := 4, cells := 0, slots := 0, locals := 93 } : Room) (mPc G [.int a1, .int a2, .int a3] S) (mQi G r S') 0 0 (zA G) := by
  refine m_met cX3_asked (by decide) rfl hG (Nat.le_of_ble_eq_true rfl) (fun p e s m args below meth c C hret hlk ls hX hl => ?_)
  have hx := C.1.1
  have hb := C.1.2.1
  have hown := C.1.2.2.2.1
  have hts := C.1.2.2.2.2
  have hS : va_S (zA G) s.heap s.heap [] := va_S.rf
  have hl : lv_has ls 4 [(0, .ref (zh G)), (1, .int a1), (2, .int a2), (3, .int a3)] := hl
  unfold fm_asked at hr
  refine lv_aload_n hx hb dX3_asked_0 rfl (lv_at hl 0 rfl) ?_
  refine lv_iload_n hx hb dX3_asked_1 rfl (lv_at hl 1 rfl) ?_
  refine lv_iload_n hx hb dX3_asked_2 rfl (lv_at hl 2 rfl) ?_
  refine lv_iload_n hx hb dX3_asked_3 rfl (lv_at hl 3 rfl) ?_
  obtain ⟨x1, e1, hr⟩ := ob hr
  refine m_cvi (As := [.int a1, .int a2, .int a3]) (rest := []) C hX hS hl.1 (cm_isAsked l G hG S a1 a2 a3 e1) (cwV 3 hts (lw_V q2213 q2215 qs80 q109 q2216) rfl rfl rfl (by decide +kernel) ⟨Nat.le_of_ble_eq_true rfl, Nat.le_of_ble_eq_true rfl⟩) rfl rfl (Nat.le_of_ble_eq_true rfl) dX3_asked_4 (fun H locs hX hS => ?_)
  refine lv_if_eq (tgt := 17) hx hb dX3_asked_7 (by decide) (fun c2 => ?_) (fun c2 => ?_)
  · replace hr := it c2 hr
    refine lv_iconst (v := -1) hx hb dX3_asked_17 (by decide) ?_
    exact m_riw (C := C) hret hlk hX hS (Option.some.inj hr) dX3_asked_18
  · replace hr := ie c2 hr
    refine lv_aload_n hx hb dX3_asked_10 rfl (lv_at hl 0 rfl) ?_
    obtain ⟨x3, e3, hr⟩ := ob hr
    refine m_cvi (As := []) (rest := []) C hX hS hl.1 (cm_askedNow l G hG x1.1  e3) (cwV 0 hts (lw_V q2247 q2249 qs85 q109 q2250) rfl rfl rfl (by decide +kernel) ⟨Nat.le_of_ble_eq_true rfl, Nat.le_of_ble_eq_true rfl⟩) rfl rfl (Nat.le_of_ble_eq_true rfl) dX3_asked_11 (fun H locs hX hS => ?_)
    refine lv_goto (tgt := 18) hx hb dX3_asked_14 (by decide) ?_
    exact m_riw (C := C) hret hlk hX hS (Option.some.inj hr) dX3_asked_18

def fm_findTurn_l9 (x1 : (mS × Int32)) (t2 : mS × Int32 × Int32) : Option ((mS × Int32 × Int32) ⊕ (mS × Int32)) :=
  (if (gI t2.1 17) ≤ t2.2.2 then
  some (.inr (t2.1, t2.2.1))
  else
  (aI t2.1 24 t2.2.2).bind fun x6 =>
  (((if x1.2 ≤ t2.2.1 then
  some (t2.1, t2.2.1)
  else
  (aI t2.1 21 x6).bind fun x10 =>
  (if x10 = 0 then
  (aI t2.1 20 x6).bind fun x12 =>
  (if x12 < (gI t2.1 25) then
  some (t2.1, t2.2.1)
  else
  (aI t2.1 18 x6).bind fun x14 =>
  (aI t2.1 46 (4 : Int32)).bind fun x15 =>
  (if x14 < x15 then
  some (t2.1, t2.2.1)
  else
  (tI t2.1 48 t2.2.1 x6).bind fun x17 =>
  some (x17, (t2.2.1 + (1 : Int32)))))
  else
  some (t2.1, t2.2.1))) : Option (mS × Int32))).bind (fun x7 =>
  some (.inl (x7.1, x7.2, (t2.2.2 + (1 : Int32))))))
def fm_findTurn (S : mS) : Option (mS × Int32) :=
  (fm_askedNow S).bind fun x1 =>
  (loopO (fm_findTurn_l9 x1) 1000000 (x1.1, (0 : Int32), (0 : Int32))).bind (fun z4 =>
  (if z4.2 = x1.2 then
  some (z4.1, z4.2)
  else
  some (z4.1, (0 : Int32))))
set_option maxHeartbeats 4000000 in
set_option maxRecDepth 100000 in
theorem cm_findTurn (l : Launch) (G : mGh) (hG : mOk G) (S : mS)  {S' : mS} {r : Int32} (hr : fm_findTurn S = some (S', r)) : Met l yX3_findTurn (ws_ yX3_findTurn cX3_findTurn 5 (some .int)) ({ frames := 3, cells := 0, slots := 0, locals := 80 } : Room) (mPc G [] S) (mQi G r S') 0 0 (zA G) := by
  refine m_met cX3_findTurn (by decide) rfl hG (Nat.le_of_ble_eq_true rfl) (fun p e s m args below meth c C hret hlk ls hX hl => ?_)
  have hx := C.1.1
  have hb := C.1.2.1
  have hown := C.1.2.2.2.1
  have hts := C.1.2.2.2.2
  have hS : va_S (zA G) s.heap s.heap [] := va_S.rf
  have hl : lv_has ls 5 [(0, .ref (zh G))] := hl
  unfold fm_findTurn at hr
  refine lv_aload_n hx hb dX3_findTurn_0 rfl (lv_at hl 0 rfl) ?_
  obtain ⟨x1, e1, hr⟩ := ob hr
  refine m_cvi (As := []) (rest := []) C hX hS hl.1 (cm_askedNow l G hG S  e1) (cwV 0 hts (lw_V q2247 q2249 qs85 q109 q2250) rfl rfl rfl (by decide +kernel) ⟨Nat.le_of_ble_eq_true rfl, Nat.le_of_ble_eq_true rfl⟩) rfl rfl (Nat.le_of_ble_eq_true rfl) dX3_findTurn_1 (fun H locs hX hS => ?_)
  refine lv_istore_n (lv' := [(1, .int x1.2), (0, .ref (zh G))]) hx hb dX3_findTurn_4 rfl hl (by decide) rfl (fun ls hl => ?_)
  refine lv_iconst (v := 0) hx hb dX3_findTurn_5 (by decide) ?_
  refine lv_istore_n (lv' := [(2, .int (0 : Int32)), (1, .int x1.2), (0, .ref (zh G))]) hx hb dX3_findTurn_6 rfl hl (by decide) rfl (fun ls hl => ?_)
  refine lv_iconst (v := 0) hx hb dX3_findTurn_7 (by decide) ?_
  refine lv_istore_n (lv' := [(3, .int (0 : Int32)), (2, .int (0 : Int32)), (1, .int x1.2), (0, .ref (zh G))]) hx hb dX3_findTurn_8 rfl hl (by decide) rfl (fun ls hl => ?_)
  obtain ⟨z4, e4, hr⟩ := ob hr
  refine m_join (I := fun (_ : Unit) H locs ls => mX G z4.1 H ∧ va_S (zA G) s.heap H locs ∧ lv_has ls 5 [(1, .int x1.2), (2, .int z4.2)]) 87 (fun _ => []) (fun _ H locs ls hi => ?_) (fun J2_87 => ?_)
  · obtain ⟨hX, hS, hl⟩ := hi
    refine lv_iload_n hx hb dX3_findTurn_87 rfl (lv_at hl 1 rfl) ?_
    refine lv_iload_n hx hb dX3_findTurn_88 rfl (lv_at hl 0 rfl) ?_
    refine lv_icmp_ne (tgt := 96) hx hb dX3_findTurn_89 (by decide) (fun c20 => ?_) (fun c20 => ?_)
    · replace hr := ie c20 hr
      refine lv_iconst (v := 0) hx hb dX3_findTurn_96 (by decide) ?_
      exact m_riw (C := C) hret hlk hX hS (Option.some.inj hr) dX3_findTurn_97
    · replace hr := it c20 hr
      refine lv_iload_n hx hb dX3_findTurn_92 rfl (lv_at hl 1 rfl) ?_
      refine lv_goto (tgt := 97) hx hb dX3_findTurn_93 (by decide) ?_
      exact m_riw (C := C) hret hlk hX hS (Option.some.inj hr) dX3_findTurn_97
  refine m_loop e4 (fun (t2 : mS × Int32 × Int32) H locs ls => mX G t2.1 H ∧ va_S (zA G) s.heap H locs ∧ lv_has ls 5 [(0, .ref (zh G)), (1, .int x1.2), (2, .int t2.2.1), (3, .int t2.2.2)]) 9 ⟨hX, hS, lv_sub hl [3, 2, 1, 0] rfl⟩ (fun t2 y2 b2 w2 k2 H locs ls hi => ?_)
  obtain ⟨hX, hS, hl⟩ := hi
  unfold fm_findTurn_l9 at b2
  refine lv_iload_n hx hb dX3_findTurn_9 rfl (lv_at hl 3 rfl) ?_
  refine lv_aload_n hx hb dX3_findTurn_10 rfl (lv_at hl 0 rfl) ?_
  refine m_gi (k := 17) C q1715 rfl hX dX3_findTurn_11 ?_
  refine lv_icmp_ge (tgt := 87) hx hb dX3_findTurn_14 (by decide) (fun c5 => ?_) (fun c5 => ?_)
  · replace b2 := it c5 b2
    replace b2 := lx b2 w2
    subst b2
    exact J2_87 () _ _ ls ⟨hX, hS, lv_sub hl [1, 2] rfl⟩
  · replace b2 := ie c5 b2
    refine lv_aload_n hx hb dX3_findTurn_17 rfl (lv_at hl 0 rfl) ?_
    refine m_ga (k := 24) (d := 0) C q1722 rfl (by decide) hX dX3_findTurn_18 ?_
    refine lv_iload_n hx hb dX3_findTurn_21 rfl (lv_at hl 3 rfl) ?_
    obtain ⟨x6, e6, b2⟩ := ob b2
    refine m_ia (k := 24) C rfl hX e6 dX3_findTurn_22 ?_
    refine lv_istore (lv' := [(4, .int x6), (0, .ref (zh G)), (1, .int x1.2), (2, .int t2.2.1), (3, .int t2.2.2)]) hx hb dX3_findTurn_23 hl (by decide) rfl (fun ls hl => ?_)
    refine lv_iload_n hx hb dX3_findTurn_25 rfl (lv_at hl 3 rfl) ?_
    refine lv_iload_n hx hb dX3_findTurn_26 rfl (lv_at hl 2 rfl) ?_
    obtain ⟨x7, r7, b2⟩ := ob b2
    refine m_join (I := fun (t8 : mS × Int32) H locs ls => x7 = t8 ∧ mX G t8.1 H ∧ va_S (zA G) s.heap H locs ∧ lv_has ls 5 [(0, .ref (zh G)), (1, .int x1.2), (2, .int t8.2), (3, .int t2.2.2)]) 81 (fun t8 => []) (fun t8 H locs ls hi => ?_) (fun J7 => ?_)
    · obtain ⟨rfl, hX, hS, hl⟩ := hi
      refine lv_iinc (v := (t2.2.2 + (1 : Int32))) (k := 3) (lv' := [(3, .int (t2.2.2 + (1 : Int32))), (0, .ref (zh G)), (1, .int x1.2), (2, .int x7.2)]) hx hb dX3_findTurn_81 hl rfl rfl (by decide) rfl (fun ls hl => ?_)
      refine lv_goto (tgt := 9) hx hb dX3_findTurn_84 (by decide) ?_
      obtain ⟨g19, hg19⟩ : ∃ g, g = (t2.2.2 + (1 : Int32)) := ⟨_, rfl⟩
      rw [← hg19] at hl b2
      exact k2 _ (Option.some.inj b2).symm _ _ ls ⟨hX, hS, lv_sub hl [1, 2, 3, 0] rfl⟩
    · refine lv_icmp_ge (tgt := 81) hx hb dX3_findTurn_27 (by decide) (fun c9 => ?_) (fun c9 => ?_)
      · replace r7 := it c9 r7
        exact J7 _ _ _ ls ⟨(Option.some.inj r7).symm, hX, hS, lv_sub hl [1, 2, 3, 4] rfl⟩
      · replace r7 := ie c9 r7
        refine lv_aload_n hx hb dX3_findTurn_30 rfl (lv_at hl 1 rfl) ?_
        refine m_ga (k := 21) (d := 1) C q1719 rfl (by decide) hX dX3_findTurn_31 ?_
        refine lv_iload hx hb dX3_findTurn_34 (lv_at hl 0 rfl) ?_
        obtain ⟨x10, e10, r7⟩ := ob r7
        refine m_za (k := 21) C rfl hX e10 dX3_findTurn_36 ?_
        refine lv_if_ne (tgt := 81) hx hb dX3_findTurn_37 (by decide) (fun c11 => ?_) (fun c11 => ?_)
        · replace r7 := ie c11 r7
          exact J7 _ _ _ ls ⟨(Option.some.inj r7).symm, hX, hS, lv_sub hl [1, 2, 3, 4] rfl⟩
        · replace r7 := it c11 r7
          refine lv_aload_n hx hb dX3_findTurn_40 rfl (lv_at hl 1 rfl) ?_
          refine m_ga (k := 20) (d := 0) C q1718 rfl (by decide) hX dX3_findTurn_41 ?_
          refine lv_iload hx hb dX3_findTurn_44 (lv_at hl 0 rfl) ?_
          obtain ⟨x12, e12, r7⟩ := ob r7
          refine m_ia (k := 20) C rfl hX e12 dX3_findTurn_46 ?_
          refine lv_aload_n hx hb dX3_findTurn_47 rfl (lv_at hl 1 rfl) ?_
          refine m_gi (k := 25) C q1723 rfl hX dX3_findTurn_48 ?_
          refine lv_icmp_lt (tgt := 81) hx hb dX3_findTurn_51 (by decide) (fun c13 => ?_) (fun c13 => ?_)
          · replace r7 := it c13 r7
            exact J7 _ _ _ ls ⟨(Option.some.inj r7).symm, hX, hS, lv_sub hl [1, 2, 3, 4] rfl⟩
          · replace r7 := ie c13 r7
            refine lv_aload_n hx hb dX3_findTurn_54 rfl (lv_at hl 1 rfl) ?_
            refine m_ga (k := 18) (d := 0) C q1716 rfl (by decide) hX dX3_findTurn_55 ?_
            refine lv_iload hx hb dX3_findTurn_58 (lv_at hl 0 rfl) ?_
            obtain ⟨x14, e14, r7⟩ := ob r7
            refine m_ia (k := 18) C rfl hX e14 dX3_findTurn_60 ?_
            refine lv_aload_n hx hb dX3_findTurn_61 rfl (lv_at hl 1 rfl) ?_
            refine m_ga (k := 46) (d := 0) C q1744 rfl (by decide) hX dX3_findTurn_62 ?_
            refine lv_iconst (v := 4) hx hb dX3_findTurn_65 (by decide) ?_
            obtain ⟨x15, e15, r7⟩ := ob r7
            refine m_ia (k := 46) C rfl hX e15 dX3_findTurn_66 ?_
            refine lv_icmp_lt (tgt := 81) hx hb dX3_findTurn_67 (by decide) (fun c16 => ?_) (fun c16 => ?_)
            · replace r7 := it c16 r7
              exact J7 _ _ _ ls ⟨(Option.some.inj r7).symm, hX, hS, lv_sub hl [1, 2, 3, 4] rfl⟩
            · replace r7 := ie c16 r7
              refine lv_aload_n hx hb dX3_findTurn_70 rfl (lv_at hl 1 rfl) ?_
              refine m_ga (k := 48) (d := 0) C q1746 rfl (by decide) hX dX3_findTurn_71 ?_
              refine lv_iload_n hx hb dX3_findTurn_74 rfl (lv_at hl 3 rfl) ?_
              refine lv_iload hx hb dX3_findTurn_75 (lv_at hl 0 rfl) ?_
              obtain ⟨x17, e17, r7⟩ := ob r7
              refine m_is (k := 48) C rfl hX hS e17 dX3_findTurn_77 (fun H locs hX hS => ?_)
              refine lv_iinc (v := (t2.2.1 + (1 : Int32))) (k := 3) (lv' := [(2, .int (t2.2.1 + (1 : Int32))), (4, .int x6), (0, .ref (zh G)), (1, .int x1.2), (3, .int t2.2.2)]) hx hb dX3_findTurn_78 hl rfl rfl (by decide) rfl (fun ls hl => ?_)
              obtain ⟨g18, hg18⟩ : ∃ g, g = (t2.2.1 + (1 : Int32)) := ⟨_, rfl⟩
              rw [← hg18] at hl r7
              exact J7 _ _ _ ls ⟨(Option.some.inj r7).symm, hX, hS, lv_sub hl [2, 3, 0, 4] rfl⟩
