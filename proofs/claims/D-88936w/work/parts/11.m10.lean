/-! M's methods, printed by tool/genm.py -/
def fm_rootOf_l3 (S : mS) (a1 : Int32) (t1 : Int32) : Option ((Int32) ⊕ (Int32)) :=
  (aI S 77 t1).bind fun x4 =>
  (if x4 = a1 then
  some (.inr t1)
  else
  some (.inl (t1 + (1 : Int32))))
def fm_rootOf (S : mS) (a1 : Int32) : Option Int32 :=
  (loopO (fm_rootOf_l3 S a1) 1000000 (6 : Int32)).bind (fun z3 =>
  some z3)
set_option maxHeartbeats 4000000 in
set_option maxRecDepth 100000 in
theorem cm_rootOf (l : Launch) (G : mGh) (hG : mOk G) (S : mS) (a1 : Int32) {r : Int32} (hr : fm_rootOf S a1 = some r) : Met l yX3_rootOf (ws_ yX3_rootOf cX3_rootOf 3 (some .int)) ({ frames := 0, cells := 0, slots := 0, locals := 0 } : Room) (mPc G [.int a1] S) (mQi G r S) 0 0 (zA G) := by
  refine m_met cX3_rootOf (by decide) rfl hG (Nat.le_of_ble_eq_true rfl) (fun p e s m args below meth c C hret hlk ls hX hl => ?_)
  have hx := C.1.1
  have hb := C.1.2.1
  have hown := C.1.2.2.2.1
  have hts := C.1.2.2.2.2
  have hS : va_S (zA G) s.heap s.heap [] := va_S.rf
  have hl : lv_has ls 3 [(0, .ref (zh G)), (1, .int a1)] := hl
  unfold fm_rootOf at hr
  refine lv_bipush (v := 6) hx hb dX3_rootOf_0 (by decide) ?_
  refine lv_istore_n (lv' := [(2, .int (6 : Int32)), (0, .ref (zh G)), (1, .int a1)]) hx hb dX3_rootOf_2 rfl hl (by decide) rfl (fun ls hl => ?_)
  obtain ⟨z3, e3, hr⟩ := ob hr
  refine m_join (I := fun (_ : Unit) H locs ls => mX G S H ∧ va_S (zA G) s.heap H locs ∧ lv_has ls 3 [(2, .int z3)]) 19 (fun _ => []) (fun _ H locs ls hi => ?_) (fun J1_19 => ?_)
  · obtain ⟨hX, hS, hl⟩ := hi
    refine lv_iload_n hx hb dX3_rootOf_19 rfl (lv_at hl 0 rfl) ?_
    exact m_ri (C := C) hret hlk hX hS (Option.some.inj hr) dX3_rootOf_20
  refine m_loop e3 (fun (t1 : Int32) H locs ls => mX G S H ∧ va_S (zA G) s.heap H locs ∧ lv_has ls 3 [(0, .ref (zh G)), (1, .int a1), (2, .int t1)]) 3 ⟨hX, hS, lv_sub hl [1, 2, 0] rfl⟩ (fun t1 y1 b1 w1 k1 H locs ls hi => ?_)
  obtain ⟨hX, hS, hl⟩ := hi
  unfold fm_rootOf_l3 at b1
  refine lv_aload_n hx hb dX3_rootOf_3 rfl (lv_at hl 0 rfl) ?_
  refine m_ga (k := 77) (d := 0) C q1775 rfl (by decide) hX dX3_rootOf_4 ?_
  refine lv_iload_n hx hb dX3_rootOf_7 rfl (lv_at hl 2 rfl) ?_
  obtain ⟨x4, e4, b1⟩ := ob b1
  refine m_ia (k := 77) C rfl hX e4 dX3_rootOf_8 ?_
  refine lv_iload_n hx hb dX3_rootOf_9 rfl (lv_at hl 1 rfl) ?_
  refine lv_icmp_eq (tgt := 19) hx hb dX3_rootOf_10 (by decide) (fun c5 => ?_) (fun c5 => ?_)
  · replace b1 := it c5 b1
    replace b1 := lx b1 w1
    subst b1
    exact J1_19 () _ _ ls ⟨hX, hS, lv_sub hl [2] rfl⟩
  · replace b1 := ie c5 b1
    refine lv_iinc (v := (t1 + (1 : Int32))) (k := 2) (lv' := [(2, .int (t1 + (1 : Int32))), (0, .ref (zh G)), (1, .int a1)]) hx hb dX3_rootOf_13 hl rfl rfl (by decide) rfl (fun ls hl => ?_)
    refine lv_goto (tgt := 3) hx hb dX3_rootOf_16 (by decide) ?_
    obtain ⟨g6, hg6⟩ : ∃ g, g = (t1 + (1 : Int32)) := ⟨_, rfl⟩
    rw [← hg6] at hl b1
    exact k1 _ (Option.some.inj b1).symm _ _ ls ⟨hX, hS, lv_sub hl [1, 2, 0] rfl⟩

def fm_adds (S : mS) (a1 : Int32) (a2 : Int32) (a3 : Int64) : Option mS :=
  (if a1 = (-4 : Int32) then
  some S
  else
  (aJ S 78 ((15 : Int32) * a1)).bind fun x2 =>
  (tJ S 78 ((15 : Int32) * a1) (x2 + (1 : Int64))).bind fun x3 =>
  (aJ x3 79 a1).bind fun x4 =>
  (tJ x3 79 a1 (x4 + a3)).bind fun x5 =>
  (if a2 = (-4 : Int32) then
  some x5
  else
  (aJ x5 78 (((14 : Int32) * a1) + a2)).bind fun x7 =>
  (tJ x5 78 (((14 : Int32) * a1) + a2) (x7 + (1 : Int64))).bind fun x8 =>
  some x8))
set_option maxHeartbeats 4000000 in
set_option maxRecDepth 100000 in
theorem cm_adds (l : Launch) (G : mGh) (hG : mOk G) (S : mS) (a1 : Int32) (a2 : Int32) (a3 : Int64) {S' : mS} (hr : fm_adds S a1 a2 a3 = some S') : Met l yX3_adds (ws_ yX3_adds cX3_adds 5 none) ({ frames := 0, cells := 0, slots := 0, locals := 0 } : Room) (mPc G [.int a1, .int a2, .long a3] S) (mQv G S') 0 0 (zA G) := by
  refine m_met cX3_adds (by decide) rfl hG (Nat.le_of_ble_eq_true rfl) (fun p e s m args below meth c C hret hlk ls hX hl => ?_)
  have hx := C.1.1
  have hb := C.1.2.1
  have hown := C.1.2.2.2.1
  have hts := C.1.2.2.2.2
  have hS : va_S (zA G) s.heap s.heap [] := va_S.rf
  have hl : lv_has ls 5 [(0, .ref (zh G)), (1, .int a1), (2, .int a2), (3, .long a3)] := hl
  unfold fm_adds at hr
  refine lv_iload_n hx hb dX3_adds_0 rfl (lv_at hl 1 rfl) ?_
  refine lv_bipush (v := -4) hx hb dX3_adds_1 (by decide) ?_
  refine lv_icmp_eq (tgt := 50) hx hb dX3_adds_3 (by decide) (fun c1 => ?_) (fun c1 => ?_)
  · replace hr := it c1 hr
    exact m_rvw (C := C) hret hlk hX hS (Option.some.inj hr) dX3_adds_50
  · replace hr := ie c1 hr
    refine lv_aload_n hx hb dX3_adds_6 rfl (lv_at hl 0 rfl) ?_
    refine m_ga (k := 78) (d := 2) C q1776 rfl (by decide) hX dX3_adds_7 ?_
    refine lv_bipush (v := 15) hx hb dX3_adds_10 (by decide) ?_
    refine lv_iload_n hx hb dX3_adds_12 rfl (lv_at hl 1 rfl) ?_
    refine lv_imul hx hb dX3_adds_13 ?_
    refine lv_dup2_11 hx hb dX3_adds_14 rfl rfl ?_
    obtain ⟨x2, e2, hr⟩ := ob hr
    refine m_ja (k := 78) C rfl hX e2 dX3_adds_15 ?_
    refine lv_lconst (v := 1) hx hb dX3_adds_16 (by decide) ?_
    refine lv_ladd hx hb dX3_adds_17 ?_
    obtain ⟨x3, e3, hr⟩ := ob hr
    refine m_js (k := 78) C rfl hX hS e3 dX3_adds_18 (fun H locs hX hS => ?_)
    refine lv_aload_n hx hb dX3_adds_19 rfl (lv_at hl 0 rfl) ?_
    refine m_ga (k := 79) (d := 2) C q1777 rfl (by decide) hX dX3_adds_20 ?_
    refine lv_iload_n hx hb dX3_adds_23 rfl (lv_at hl 1 rfl) ?_
    refine lv_dup2_11 hx hb dX3_adds_24 rfl rfl ?_
    obtain ⟨x4, e4, hr⟩ := ob hr
    refine m_ja (k := 79) C rfl hX e4 dX3_adds_25 ?_
    refine lv_lload_n hx hb dX3_adds_26 rfl (lv_at hl 3 rfl) ?_
    refine lv_ladd hx hb dX3_adds_27 ?_
    obtain ⟨x5, e5, hr⟩ := ob hr
    refine m_js (k := 79) C rfl hX hS e5 dX3_adds_28 (fun H locs hX hS => ?_)
    refine lv_iload_n hx hb dX3_adds_29 rfl (lv_at hl 2 rfl) ?_
    refine lv_bipush (v := -4) hx hb dX3_adds_30 (by decide) ?_
    refine lv_icmp_eq (tgt := 50) hx hb dX3_adds_32 (by decide) (fun c6 => ?_) (fun c6 => ?_)
    · replace hr := it c6 hr
      exact m_rvw (C := C) hret hlk hX hS (Option.some.inj hr) dX3_adds_50
    · replace hr := ie c6 hr
      refine lv_aload_n hx hb dX3_adds_35 rfl (lv_at hl 0 rfl) ?_
      refine m_ga (k := 78) (d := 2) C q1776 rfl (by decide) hX dX3_adds_36 ?_
      refine lv_bipush (v := 14) hx hb dX3_adds_39 (by decide) ?_
      refine lv_iload_n hx hb dX3_adds_41 rfl (lv_at hl 1 rfl) ?_
      refine lv_imul hx hb dX3_adds_42 ?_
      refine lv_iload_n hx hb dX3_adds_43 rfl (lv_at hl 2 rfl) ?_
      refine lv_iadd hx hb dX3_adds_44 ?_
      refine lv_dup2_11 hx hb dX3_adds_45 rfl rfl ?_
      obtain ⟨x7, e7, hr⟩ := ob hr
      refine m_ja (k := 78) C rfl hX e7 dX3_adds_46 ?_
      refine lv_lconst (v := 1) hx hb dX3_adds_47 (by decide) ?_
      refine lv_ladd hx hb dX3_adds_48 ?_
      obtain ⟨x8, e8, hr⟩ := ob hr
      refine m_js (k := 78) C rfl hX hS e8 dX3_adds_49 (fun H locs hX hS => ?_)
      exact m_rvw (C := C) hret hlk hX hS (Option.some.inj hr) dX3_adds_50

def fm_lowest_k53 (S : mS) (a1 : Int64) (a2 : Int64) (z11 : Int64) : Option (mS) :=
  (if 0 ≤ (lg_cmp a2 (0 : Int64)) then
  (dJ a1 z11).bind fun x15 =>
  (pJ S 81 x15).bind fun x16 =>
  (dJ a2 z11).bind fun x17 =>
  (pJ x16 82 x17).bind fun x18 =>
  some x18
  else
  (dJ a1 (-z11)).bind fun x19 =>
  (pJ S 81 x19).bind fun x20 =>
  (dJ a2 (-z11)).bind fun x21 =>
  (pJ x20 82 x21).bind fun x22 =>
  some x22)
def fm_lowest_l28  (t9 : Int64 × Int64) : Option ((Int64 × Int64) ⊕ (Int64)) :=
  (if (lg_cmp t9.2 (0 : Int64)) = 0 then
  some (.inr t9.1)
  else
  (rJ t9.1 t9.2).bind fun x13 =>
  some (.inl (t9.2, x13)))
def fm_lowest_k12 (S : mS) (a1 : Int64) (a2 : Int64) (x1 : Int64) : Option (mS) :=
  (((if 0 ≤ (lg_cmp a2 (0 : Int64)) then
  some a2
  else
  some (-a2)) : Option (Int64))).bind (fun x5 =>
  (loopO fm_lowest_l28 1000000 (x1, x5)).bind (fun z11 => fm_lowest_k53 S a1 a2 z11))
def fm_lowest (S : mS) (a1 : Int64) (a2 : Int64) : Option mS :=
  (((if 0 ≤ (lg_cmp a1 (0 : Int64)) then
  some a1
  else
  some (-a1)) : Option (Int64))).bind (fun x1 => fm_lowest_k12 S a1 a2 x1)
set_option maxHeartbeats 4000000 in
set_option maxRecDepth 100000 in
theorem cm_lowest (l : Launch) (G : mGh) (hG : mOk G) (S : mS) (a1 : Int64) (a2 : Int64) {S' : mS} (hr : fm_lowest S a1 a2 = some S') : Met l yX3_lowest (ws_ yX3_lowest cX3_lowest 11 none) ({ frames := 0, cells := 0, slots := 0, locals := 0 } : Room) (mPc G [.long a1, .long a2] S) (mQv G S') 0 0 (zA G) := by
  refine m_met cX3_lowest (by decide) rfl hG (Nat.le_of_ble_eq_true rfl) (fun p e s m args below meth c C hret hlk ls hX hl => ?_)
  have hx := C.1.1
  have hb := C.1.2.1
  have hown := C.1.2.2.2.1
  have hts := C.1.2.2.2.2
  have hS : va_S (zA G) s.heap s.heap [] := va_S.rf
  have hl : lv_has ls 11 [(0, .ref (zh G)), (1, .long a1), (3, .long a2)] := hl
  unfold fm_lowest at hr
  refine lv_lload_n hx hb dX3_lowest_0 rfl (lv_at hl 1 rfl) ?_
  refine lv_lconst (v := 0) hx hb dX3_lowest_1 (by decide) ?_
  refine W.lcmp hx hb dX3_lowest_2 ?_
  obtain ⟨x1, r1, hr⟩ := ob hr
  refine m_join (I := fun (t2 : Int64) H locs ls => x1 = t2 ∧ mX G S H ∧ va_S (zA G) s.heap H locs ∧ lv_has ls 11 [(0, .ref (zh G)), (1, .long a1), (3, .long a2)]) 12 (fun t2 => [.long t2]) (fun t2 H locs ls hi => ?_) (fun J1 => ?_)
  · obtain ⟨rfl, hX, hS, hl⟩ := hi
    unfold fm_lowest_k12 at hr
    refine lv_lstore (lv' := [(5, .long x1), (0, .ref (zh G)), (1, .long a1), (3, .long a2)]) hx hb dX3_lowest_12 hl (by decide) rfl (fun ls hl => ?_)
    refine lv_lload_n hx hb dX3_lowest_14 rfl (lv_at hl 3 rfl) ?_
    refine lv_lconst (v := 0) hx hb dX3_lowest_15 (by decide) ?_
    refine W.lcmp hx hb dX3_lowest_16 ?_
    obtain ⟨x5, r5, hr⟩ := ob hr
    refine m_join (I := fun (t6 : Int64) H locs ls => x5 = t6 ∧ mX G S H ∧ va_S (zA G) s.heap H locs ∧ lv_has ls 11 [(0, .ref (zh G)), (1, .long a1), (3, .long a2), (5, .long x1)]) 26 (fun t6 => [.long t6]) (fun t6 H locs ls hi => ?_) (fun J5 => ?_)
    · obtain ⟨rfl, hX, hS, hl⟩ := hi
      refine lv_lstore (lv' := [(7, .long x5), (0, .ref (zh G)), (1, .long a1), (3, .long a2), (5, .long x1)]) hx hb dX3_lowest_26 hl (by decide) rfl (fun ls hl => ?_)
      obtain ⟨z11, e11, hr⟩ := ob hr
      refine m_join (I := fun (_ : Unit) H locs ls => mX G S H ∧ va_S (zA G) s.heap H locs ∧ lv_has ls 11 [(0, .ref (zh G)), (1, .long a1), (3, .long a2), (5, .long z11)]) 53 (fun _ => []) (fun _ H locs ls hi => ?_) (fun J9_53 => ?_)
      · obtain ⟨hX, hS, hl⟩ := hi
        unfold fm_lowest_k53 at hr
        refine lv_lload_n hx hb dX3_lowest_53 rfl (lv_at hl 2 rfl) ?_
        refine lv_lconst (v := 0) hx hb dX3_lowest_54 (by decide) ?_
        refine W.lcmp hx hb dX3_lowest_55 ?_
        refine lv_if_ge (tgt := 65) hx hb dX3_lowest_56 (by decide) (fun c14 => ?_) (fun c14 => ?_)
        · replace hr := it c14 hr
          refine lv_lload hx hb dX3_lowest_65 (lv_at hl 3 rfl) ?_
          refine lv_lstore (lv' := [(5, .long z11), (0, .ref (zh G)), (1, .long a1), (3, .long a2)]) hx hb dX3_lowest_67 hl (by decide) rfl (fun ls hl => ?_)
          refine lv_aload_n hx hb dX3_lowest_69 rfl (lv_at hl 1 rfl) ?_
          refine lv_lload_n hx hb dX3_lowest_70 rfl (lv_at hl 2 rfl) ?_
          refine lv_lload hx hb dX3_lowest_71 (lv_at hl 0 rfl) ?_
          obtain ⟨x15, e15, hr⟩ := ob hr
          refine m_jd C e15 dX3_lowest_73 ?_
          obtain ⟨x16, e16, hr⟩ := ob hr
          refine m_pj (k := 81) C q1779 rfl hX hS e16 dX3_lowest_74 (fun H locs hX hS => ?_)
          refine lv_aload_n hx hb dX3_lowest_77 rfl (lv_at hl 1 rfl) ?_
          refine lv_lload_n hx hb dX3_lowest_78 rfl (lv_at hl 3 rfl) ?_
          refine lv_lload hx hb dX3_lowest_79 (lv_at hl 0 rfl) ?_
          obtain ⟨x17, e17, hr⟩ := ob hr
          refine m_jd C e17 dX3_lowest_81 ?_
          obtain ⟨x18, e18, hr⟩ := ob hr
          refine m_pj (k := 82) C q1780 rfl hX hS e18 dX3_lowest_82 (fun H locs hX hS => ?_)
          exact m_rvw (C := C) hret hlk hX hS (Option.some.inj hr) dX3_lowest_85
        · replace hr := ie c14 hr
          refine lv_lload hx hb dX3_lowest_59 (lv_at hl 3 rfl) ?_
          refine lv_lneg hx hb dX3_lowest_61 ?_
          refine lv_goto (tgt := 67) hx hb dX3_lowest_62 (by decide) ?_
          refine lv_lstore (lv' := [(5, .long (-z11)), (0, .ref (zh G)), (1, .long a1), (3, .long a2)]) hx hb dX3_lowest_67 hl (by decide) rfl (fun ls hl => ?_)
          refine lv_aload_n hx hb dX3_lowest_69 rfl (lv_at hl 1 rfl) ?_
          refine lv_lload_n hx hb dX3_lowest_70 rfl (lv_at hl 2 rfl) ?_
          refine lv_lload hx hb dX3_lowest_71 (lv_at hl 0 rfl) ?_
          obtain ⟨x19, e19, hr⟩ := ob hr
          refine m_jd C e19 dX3_lowest_73 ?_
          obtain ⟨x20, e20, hr⟩ := ob hr
          refine m_pj (k := 81) C q1779 rfl hX hS e20 dX3_lowest_74 (fun H locs hX hS => ?_)
          refine lv_aload_n hx hb dX3_lowest_77 rfl (lv_at hl 1 rfl) ?_
          refine lv_lload_n hx hb dX3_lowest_78 rfl (lv_at hl 3 rfl) ?_
          refine lv_lload hx hb dX3_lowest_79 (lv_at hl 0 rfl) ?_
          obtain ⟨x21, e21, hr⟩ := ob hr
          refine m_jd C e21 dX3_lowest_81 ?_
          obtain ⟨x22, e22, hr⟩ := ob hr
          refine m_pj (k := 82) C q1780 rfl hX hS e22 dX3_lowest_82 (fun H locs hX hS => ?_)
          exact m_rvw (C := C) hret hlk hX hS (Option.some.inj hr) dX3_lowest_85
      refine m_loop e11 (fun (t9 : Int64 × Int64) H locs ls => mX G S H ∧ va_S (zA G) s.heap H locs ∧ lv_has ls 11 [(0, .ref (zh G)), (1, .long a1), (3, .long a2), (5, .long t9.1), (7, .long t9.2)]) 28 ⟨hX, hS, lv_sub hl [1, 2, 3, 4, 0] rfl⟩ (fun t9 y9 b9 w9 k9 H locs ls hi => ?_)
      obtain ⟨hX, hS, hl⟩ := hi
      unfold fm_lowest_l28 at b9
      refine lv_lload hx hb dX3_lowest_28 (lv_at hl 4 rfl) ?_
      refine lv_lconst (v := 0) hx hb dX3_lowest_30 (by decide) ?_
      refine W.lcmp hx hb dX3_lowest_31 ?_
      refine lv_if_eq (tgt := 53) hx hb dX3_lowest_32 (by decide) (fun c12 => ?_) (fun c12 => ?_)
      · replace b9 := it c12 b9
        replace b9 := lx b9 w9
        subst b9
        exact J9_53 () _ _ ls ⟨hX, hS, lv_sub hl [0, 1, 2, 3] rfl⟩
      · replace b9 := ie c12 b9
        refine lv_lload hx hb dX3_lowest_35 (lv_at hl 3 rfl) ?_
        refine lv_lload hx hb dX3_lowest_37 (lv_at hl 4 rfl) ?_
        obtain ⟨x13, e13, b9⟩ := ob b9
        refine m_jr C e13 dX3_lowest_39 ?_
        refine lv_lstore (lv' := [(9, .long x13), (0, .ref (zh G)), (1, .long a1), (3, .long a2), (5, .long t9.1), (7, .long t9.2)]) hx hb dX3_lowest_40 hl (by decide) rfl (fun ls hl => ?_)
        refine lv_lload hx hb dX3_lowest_42 (lv_at hl 5 rfl) ?_
        refine lv_lstore (lv' := [(5, .long t9.2), (9, .long x13), (0, .ref (zh G)), (1, .long a1), (3, .long a2), (7, .long t9.2)]) hx hb dX3_lowest_44 hl (by decide) rfl (fun ls hl => ?_)
        refine lv_lload hx hb dX3_lowest_46 (lv_at hl 1 rfl) ?_
        refine lv_lstore (lv' := [(7, .long x13), (5, .long t9.2), (9, .long x13), (0, .ref (zh G)), (1, .long a1), (3, .long a2)]) hx hb dX3_lowest_48 hl (by decide) rfl (fun ls hl => ?_)
        refine lv_goto (tgt := 28) hx hb dX3_lowest_50 (by decide) ?_
        exact k9 _ (Option.some.inj b9).symm _ _ ls ⟨hX, hS, lv_sub hl [3, 4, 5, 1, 0] rfl⟩
    · refine lv_if_ge (tgt := 25) hx hb dX3_lowest_17 (by decide) (fun c7 => ?_) (fun c7 => ?_)
      · replace r5 := it c7 r5
        refine lv_lload_n hx hb dX3_lowest_25 rfl (lv_at hl 3 rfl) ?_
        exact J5 _ _ _ ls ⟨(Option.some.inj r5).symm, hX, hS, lv_sub hl [1, 2, 3, 0] rfl⟩
      · replace r5 := ie c7 r5
        refine lv_lload_n hx hb dX3_lowest_20 rfl (lv_at hl 3 rfl) ?_
        refine lv_lneg hx hb dX3_lowest_21 ?_
        refine lv_goto (tgt := 26) hx hb dX3_lowest_22 (by decide) ?_
        obtain ⟨g8, hg8⟩ : ∃ g, g = (-a2) := ⟨_, rfl⟩
        rw [← hg8] at ⊢ r5
        exact J5 _ _ _ ls ⟨(Option.some.inj r5).symm, hX, hS, lv_sub hl [1, 2, 3, 0] rfl⟩
  · refine lv_if_ge (tgt := 11) hx hb dX3_lowest_3 (by decide) (fun c3 => ?_) (fun c3 => ?_)
    · replace r1 := it c3 r1
      refine lv_lload_n hx hb dX3_lowest_11 rfl (lv_at hl 1 rfl) ?_
      exact J1 _ _ _ ls ⟨(Option.some.inj r1).symm, hX, hS, hl⟩
    · replace r1 := ie c3 r1
      refine lv_lload_n hx hb dX3_lowest_6 rfl (lv_at hl 1 rfl) ?_
      refine lv_lneg hx hb dX3_lowest_7 ?_
      refine lv_goto (tgt := 12) hx hb dX3_lowest_8 (by decide) ?_
      obtain ⟨g4, hg4⟩ : ∃ g, g = (-a1) := ⟨_, rfl⟩
      rw [← hg4] at ⊢ r1
      exact J1 _ _ _ ls ⟨(Option.some.inj r1).symm, hX, hS, hl⟩

def fm_findGrade_k376 (t54 : mS × Int64 × Int32) (x66 : Int64) (x58 : Int64) (t59 : mS × Int32) (z69 : mS) : Option (mS) :=
  (aJ z69 79 t59.2).bind fun x76 =>
  (aJ z69 79 t54.2.2).bind fun x77 =>
  (dJ ((x58 * x76) - (x66 * x77)) t54.2.1).bind fun x78 =>
  (tJ z69 79 t59.2 x78).bind fun x79 =>
  some x79
def fm_findGrade_l315 (z6 : mS × Int32) (t54 : mS × Int64 × Int32) (x66 : Int64) (x58 : Int64) (t59 : mS × Int32) (t67 : mS × Int32) : Option ((mS × Int32) ⊕ (mS)) :=
  (if z6.2 ≤ t67.2 then
  some (.inr t67.1)
  else
  (aJ t67.1 78 (((14 : Int32) * t59.2) + t67.2)).bind fun x71 =>
  (aJ t67.1 78 (((14 : Int32) * t54.2.2) + t67.2)).bind fun x72 =>
  (dJ ((x58 * x71) - (x66 * x72)) t54.2.1).bind fun x73 =>
  (tJ t67.1 78 (((14 : Int32) * t59.2) + t67.2) x73).bind fun x74 =>
  some (.inl (x74, (t67.2 + (1 : Int32)))))
def fm_findGrade_l284 (z6 : mS × Int32) (t54 : mS × Int64 × Int32) (x58 : Int64) (t59 : mS × Int32) : Option ((mS × Int32) ⊕ (mS)) :=
  (if z6.2 ≤ t59.2 then
  some (.inr t59.1)
  else
  (((if t59.2 = t54.2.2 then
  some t59.1
  else
  (aJ t59.1 78 (((14 : Int32) * t59.2) + t54.2.2)).bind fun x66 =>
  (loopO (fm_findGrade_l315 z6 t54 x66 x58 t59) 1000000 (t59.1, (0 : Int32))).bind (fun z69 => fm_findGrade_k376 t54 x66 x58 t59 z69)) : Option (mS))).bind (fun x63 =>
  some (.inl (x63, (t59.2 + (1 : Int32))))))
def fm_findGrade_l263 (z6 : mS × Int32) (t54 : mS × Int64 × Int32) : Option ((mS × Int64 × Int32) ⊕ (mS × Int64)) :=
  (if z6.2 ≤ t54.2.2 then
  some (.inr (t54.1, t54.2.1))
  else
  (aJ t54.1 78 ((15 : Int32) * t54.2.2)).bind fun x58 =>
  (loopO (fm_findGrade_l284 z6 t54 x58) 1000000 (t54.1, (0 : Int32))).bind (fun z61 =>
  some (.inl (z61, x58, (t54.2.2 + (1 : Int32))))))
def fm_findGrade_k257 (a1 : Int32) (z6 : mS × Int32) (z33 : mS) : Option (mS) :=
  (loopO (fm_findGrade_l263 z6) 1000000 (z33, (1 : Int64), (0 : Int32))).bind (fun z56 =>
  (aI z56.1 80 a1).bind fun x82 =>
  (aJ z56.1 79 x82).bind fun x83 =>
  (fm_lowest z56.1 x83 z56.2).bind fun x84 =>
  some x84)
def fm_findGrade_l143 (a1 : Int32) (t31 : mS × Int32) : Option ((mS × Int32) ⊕ (mS)) :=
  (if (gI t31.1 73) ≤ t31.2 then
  some (.inr t31.1)
  else
  (aI t31.1 74 t31.2).bind fun x35 =>
  (aI t31.1 77 x35).bind fun x36 =>
  (aI t31.1 77 a1).bind fun x37 =>
  (((if x36 = x37 then
  (aI t31.1 74 t31.2).bind fun x41 =>
  (aI t31.1 80 x41).bind fun x42 =>
  (aI t31.1 75 t31.2).bind fun x43 =>
  (aI t31.1 80 ((6 : Int32) + x43)).bind fun x44 =>
  (aI t31.1 76 t31.2).bind fun x45 =>
  (fm_adds t31.1 x42 x44 x45.toInt64).bind fun x46 =>
  (aI x46 75 t31.2).bind fun x47 =>
  (aI x46 80 ((6 : Int32) + x47)).bind fun x48 =>
  (aI x46 74 t31.2).bind fun x49 =>
  (aI x46 80 x49).bind fun x50 =>
  (aI x46 76 t31.2).bind fun x51 =>
  (fm_adds x46 x48 x50 x51.toInt64).bind fun x52 =>
  some x52
  else
  some t31.1) : Option (mS))).bind (fun x38 =>
  some (.inl (x38, (t31.2 + (1 : Int32))))))
def fm_findGrade_l119  (t25 : mS × Int32) : Option ((mS × Int32) ⊕ (mS)) :=
  (if (14 : Int32) ≤ t25.2 then
  some (.inr t25.1)
  else
  (tJ t25.1 79 t25.2 (0 : Int64)).bind fun x29 =>
  some (.inl (x29, (t25.2 + (1 : Int32)))))
def fm_findGrade_l94  (t19 : mS × Int32) : Option ((mS × Int32) ⊕ (mS)) :=
  (if (196 : Int32) ≤ t19.2 then
  some (.inr t19.1)
  else
  (tJ t19.1 78 t19.2 (0 : Int64)).bind fun x23 =>
  some (.inl (x23, (t19.2 + (1 : Int32)))))
def fm_findGrade_k75 (a1 : Int32) (x3 : Int32) (z6 : mS × Int32) : Option (mS) :=
  (if a1 = x3 then
  (pJ z6.1 81 (0 : Int64)).bind fun x85 =>
  (pJ x85 82 (1 : Int64)).bind fun x86 =>
  some x86
  else
  (loopO fm_findGrade_l94 1000000 (z6.1, (0 : Int32))).bind (fun z21 =>
  (loopO fm_findGrade_l119 1000000 (z21, (0 : Int32))).bind (fun z27 =>
  (loopO (fm_findGrade_l143 a1) 1000000 (z27, (0 : Int32))).bind (fun z33 => fm_findGrade_k257 a1 z6 z33))))
def fm_findGrade_l20 (a1 : Int32) (x3 : Int32) (t4 : mS × Int32 × Int32) : Option ((mS × Int32 × Int32) ⊕ (mS × Int32)) :=
  (if (14 : Int32) ≤ t4.2.2 then
  some (.inr (t4.1, t4.2.1))
  else
  (tI t4.1 80 t4.2.2 (-4 : Int32)).bind fun x8 =>
  (aI x8 77 t4.2.2).bind fun x9 =>
  (aI x8 77 a1).bind fun x10 =>
  (((if x9 = x10 then
  (if t4.2.2 = x3 then
  some (x8, t4.2.1)
  else
  (tI x8 80 t4.2.2 t4.2.1).bind fun x15 =>
  some (x15, (t4.2.1 + (1 : Int32))))
  else
  some (x8, t4.2.1)) : Option (mS × Int32))).bind (fun x11 =>
  some (.inl (x11.1, x11.2, (t4.2.2 + (1 : Int32))))))
def fm_findGrade (S : mS) (a1 : Int32) : Option mS :=
  (fm_findLots S).bind fun x1 =>
  (aI x1 77 a1).bind fun x2 =>
  (fm_rootOf x1 x2).bind fun x3 =>
  (loopO (fm_findGrade_l20 a1 x3) 1000000 (x1, (0 : Int32), (0 : Int32))).bind (fun z6 => fm_findGrade_k75 a1 x3 z6)
set_option maxHeartbeats 4000000 in
set_option maxRecDepth 100000 in
theorem cm_findGrade (l : Launch) (G : mGh) (hG : mOk G) (S : mS) (a1 : Int32) {S' : mS} (hr : fm_findGrade S a1 = some S') : Met l yX3_findGrade (ws_ yX3_findGrade cX3_findGrade 13 none) ({ frames := 1, cells := 0, slots := 0, locals := 30 } : Room) (mPc G [.int a1] S) (mQv G S') 0 0 (zA G) := by
  refine m_met cX3_findGrade (by decide) rfl hG (Nat.le_of_ble_eq_true rfl) (fun p e s m args below meth c C hret hlk ls hX hl => ?_)
  have hx := C.1.1
  have hb := C.1.2.1
  have hown := C.1.2.2.2.1
  have hts := C.1.2.2.2.2
  have hS : va_S (zA G) s.heap s.heap [] := va_S.rf
  have hl : lv_has ls 13 [(0, .ref (zh G)), (1, .int a1)] := hl
  unfold fm_findGrade at hr
  refine lv_aload_n hx hb dX3_findGrade_0 rfl (lv_at hl 0 rfl) ?_
  obtain ⟨x1, e1, hr⟩ := ob hr
  refine m_cvv (As := []) (rest := []) C hX hS hl.1 (cm_findLots l G hG S  e1) (cwV 0 hts (lw_V q2355 q2357 qs97 q109 q2358) rfl rfl rfl (by decide +kernel) ⟨Nat.le_of_ble_eq_true rfl, Nat.le_of_ble_eq_true rfl⟩) rfl rfl (Nat.le_of_ble_eq_true rfl) dX3_findGrade_1 (fun H locs hX hS => ?_)
  refine lv_aload_n hx hb dX3_findGrade_4 rfl (lv_at hl 0 rfl) ?_
  refine lv_aload_n hx hb dX3_findGrade_5 rfl (lv_at hl 0 rfl) ?_
  refine m_ga (k := 77) (d := 0) C q1775 rfl (by decide) hX dX3_findGrade_6 ?_
  refine lv_iload_n hx hb dX3_findGrade_9 rfl (lv_at hl 1 rfl) ?_
  obtain ⟨x2, e2, hr⟩ := ob hr
  refine m_ia (k := 77) C rfl hX e2 dX3_findGrade_10 ?_
  obtain ⟨x3, e3, hr⟩ := ob hr
  refine m_cvi (As := [.int x2]) (rest := []) C hX hS hl.1 (cm_rootOf l G hG x1 x2 e3) (cwV 1 hts (lw_V q2364 q2366 qs99 q109 q2367) rfl rfl rfl (by decide +kernel) ⟨Nat.le_of_ble_eq_true rfl, Nat.le_of_ble_eq_true rfl⟩) rfl rfl (Nat.le_of_ble_eq_true rfl) dX3_findGrade_11 (fun H locs hX hS => ?_)
  refine lv_istore_n (lv' := [(2, .int x3), (0, .ref (zh G)), (1, .int a1)]) hx hb dX3_findGrade_14 rfl hl (by decide) rfl (fun ls hl => ?_)
  refine lv_iconst (v := 0) hx hb dX3_findGrade_15 (by decide) ?_
  refine lv_istore_n (lv' := [(3, .int (0 : Int32)), (2, .int x3), (0, .ref (zh G)), (1, .int a1)]) hx hb dX3_findGrade_16 rfl hl (by decide) rfl (fun ls hl => ?_)
  refine lv_iconst (v := 0) hx hb dX3_findGrade_17 (by decide) ?_
  refine lv_istore (lv' := [(4, .int (0 : Int32)), (3, .int (0 : Int32)), (2, .int x3), (0, .ref (zh G)), (1, .int a1)]) hx hb dX3_findGrade_18 hl (by decide) rfl (fun ls hl => ?_)
  obtain ⟨z6, e6, hr⟩ := ob hr
  refine m_join (I := fun (_ : Unit) H locs ls => mX G z6.1 H ∧ va_S (zA G) s.heap H locs ∧ lv_has ls 13 [(0, .ref (zh G)), (1, .int a1), (2, .int x3), (3, .int z6.2)]) 75 (fun _ => []) (fun _ H locs ls hi => ?_) (fun J4_75 => ?_)
  · obtain ⟨hX, hS, hl⟩ := hi
    unfold fm_findGrade_k75 at hr
    refine lv_iload_n hx hb dX3_findGrade_75 rfl (lv_at hl 1 rfl) ?_
    refine lv_iload_n hx hb dX3_findGrade_76 rfl (lv_at hl 2 rfl) ?_
    refine lv_icmp_ne (tgt := 91) hx hb dX3_findGrade_77 (by decide) (fun c18 => ?_) (fun c18 => ?_)
    · replace hr := ie c18 hr
      refine lv_iconst (v := 0) hx hb dX3_findGrade_91 (by decide) ?_
      refine lv_istore (lv' := [(4, .int (0 : Int32)), (0, .ref (zh G)), (1, .int a1), (2, .int x3), (3, .int z6.2)]) hx hb dX3_findGrade_92 hl (by decide) rfl (fun ls hl => ?_)
      obtain ⟨z21, e21, hr⟩ := ob hr
      refine m_join (I := fun (_ : Unit) H locs ls => mX G z21 H ∧ va_S (zA G) s.heap H locs ∧ lv_has ls 13 [(0, .ref (zh G)), (1, .int a1), (3, .int z6.2)]) 116 (fun _ => []) (fun _ H locs ls hi => ?_) (fun J19_116 => ?_)
      · obtain ⟨hX, hS, hl⟩ := hi
        refine lv_iconst (v := 0) hx hb dX3_findGrade_116 (by decide) ?_
        refine lv_istore (lv' := [(4, .int (0 : Int32)), (0, .ref (zh G)), (1, .int a1), (3, .int z6.2)]) hx hb dX3_findGrade_117 hl (by decide) rfl (fun ls hl => ?_)
        obtain ⟨z27, e27, hr⟩ := ob hr
        refine m_join (I := fun (_ : Unit) H locs ls => mX G z27 H ∧ va_S (zA G) s.heap H locs ∧ lv_has ls 13 [(0, .ref (zh G)), (1, .int a1), (3, .int z6.2)]) 140 (fun _ => []) (fun _ H locs ls hi => ?_) (fun J25_140 => ?_)
        · obtain ⟨hX, hS, hl⟩ := hi
          refine lv_iconst (v := 0) hx hb dX3_findGrade_140 (by decide) ?_
          refine lv_istore (lv' := [(4, .int (0 : Int32)), (0, .ref (zh G)), (1, .int a1), (3, .int z6.2)]) hx hb dX3_findGrade_141 hl (by decide) rfl (fun ls hl => ?_)
          obtain ⟨z33, e33, hr⟩ := ob hr
          refine m_join (I := fun (_ : Unit) H locs ls => mX G z33 H ∧ va_S (zA G) s.heap H locs ∧ lv_has ls 13 [(0, .ref (zh G)), (1, .int a1), (3, .int z6.2)]) 257 (fun _ => []) (fun _ H locs ls hi => ?_) (fun J31_257 => ?_)
          · obtain ⟨hX, hS, hl⟩ := hi
            unfold fm_findGrade_k257 at hr
            refine lv_lconst (v := 1) hx hb dX3_findGrade_257 (by decide) ?_
            refine lv_lstore (lv' := [(4, .long (1 : Int64)), (0, .ref (zh G)), (1, .int a1), (3, .int z6.2)]) hx hb dX3_findGrade_258 hl (by decide) rfl (fun ls hl => ?_)
            refine lv_iconst (v := 0) hx hb dX3_findGrade_260 (by decide) ?_
            refine lv_istore (lv' := [(6, .int (0 : Int32)), (4, .long (1 : Int64)), (0, .ref (zh G)), (1, .int a1), (3, .int z6.2)]) hx hb dX3_findGrade_261 hl (by decide) rfl (fun ls hl => ?_)
            obtain ⟨z56, e56, hr⟩ := ob hr
            refine m_join (I := fun (_ : Unit) H locs ls => mX G z56.1 H ∧ va_S (zA G) s.heap H locs ∧ lv_has ls 13 [(0, .ref (zh G)), (1, .int a1), (4, .long z56.2)]) 423 (fun _ => []) (fun _ H locs ls hi => ?_) (fun J54_423 => ?_)
            · obtain ⟨hX, hS, hl⟩ := hi
              refine lv_aload_n hx hb dX3_findGrade_423 rfl (lv_at hl 0 rfl) ?_
              refine lv_aload_n hx hb dX3_findGrade_424 rfl (lv_at hl 0 rfl) ?_
              refine m_ga (k := 79) (d := 2) C q1777 rfl (by decide) hX dX3_findGrade_425 ?_
              refine lv_aload_n hx hb dX3_findGrade_428 rfl (lv_at hl 0 rfl) ?_
              refine m_ga (k := 80) (d := 0) C q1778 rfl (by decide) hX dX3_findGrade_429 ?_
              refine lv_iload_n hx hb dX3_findGrade_432 rfl (lv_at hl 1 rfl) ?_
              obtain ⟨x82, e82, hr⟩ := ob hr
              refine m_ia (k := 80) C rfl hX e82 dX3_findGrade_433 ?_
              obtain ⟨x83, e83, hr⟩ := ob hr
              refine m_ja (k := 79) C rfl hX e83 dX3_findGrade_434 ?_
              refine lv_lload hx hb dX3_findGrade_435 (lv_at hl 2 rfl) ?_
              obtain ⟨x84, e84, hr⟩ := ob hr
              refine m_cvv (As := [.long x83, .long z56.2]) (rest := []) C hX hS hl.1 (cm_lowest l G hG z56.1 x83 z56.2 e84) (cwV 2 hts (lw_V q2372 q2374 qs101 q109 q2375) rfl rfl rfl (by decide +kernel) ⟨Nat.le_of_ble_eq_true rfl, Nat.le_of_ble_eq_true rfl⟩) rfl rfl (Nat.le_of_ble_eq_true rfl) dX3_findGrade_437 (fun H locs hX hS => ?_)
              exact m_rvw (C := C) hret hlk hX hS (Option.some.inj hr) dX3_findGrade_440
            refine m_loop e56 (fun (t54 : mS × Int64 × Int32) H locs ls => mX G t54.1 H ∧ va_S (zA G) s.heap H locs ∧ lv_has ls 13 [(0, .ref (zh G)), (1, .int a1), (3, .int z6.2), (4, .long t54.2.1), (6, .int t54.2.2)]) 263 ⟨hX, hS, lv_sub hl [2, 3, 4, 1, 0] rfl⟩ (fun t54 y54 b54 w54 k54 H locs ls hi => ?_)
            obtain ⟨hX, hS, hl⟩ := hi
            unfold fm_findGrade_l263 at b54
            refine lv_iload hx hb dX3_findGrade_263 (lv_at hl 4 rfl) ?_
            refine lv_iload_n hx hb dX3_findGrade_265 rfl (lv_at hl 2 rfl) ?_
            refine lv_icmp_ge (tgt := 423) hx hb dX3_findGrade_266 (by decide) (fun c57 => ?_) (fun c57 => ?_)
            · replace b54 := it c57 b54
              replace b54 := lx b54 w54
              subst b54
              exact J54_423 () _ _ ls ⟨hX, hS, lv_sub hl [0, 1, 3] rfl⟩
            · replace b54 := ie c57 b54
              refine lv_aload_n hx hb dX3_findGrade_269 rfl (lv_at hl 0 rfl) ?_
              refine m_ga (k := 78) (d := 2) C q1776 rfl (by decide) hX dX3_findGrade_270 ?_
              refine lv_bipush (v := 15) hx hb dX3_findGrade_273 (by decide) ?_
              refine lv_iload hx hb dX3_findGrade_275 (lv_at hl 4 rfl) ?_
              refine lv_imul hx hb dX3_findGrade_277 ?_
              obtain ⟨x58, e58, b54⟩ := ob b54
              refine m_ja (k := 78) C rfl hX e58 dX3_findGrade_278 ?_
              refine lv_lstore (lv' := [(7, .long x58), (0, .ref (zh G)), (1, .int a1), (3, .int z6.2), (4, .long t54.2.1), (6, .int t54.2.2)]) hx hb dX3_findGrade_279 hl (by decide) rfl (fun ls hl => ?_)
              refine lv_iconst (v := 0) hx hb dX3_findGrade_281 (by decide) ?_
              refine lv_istore (lv' := [(9, .int (0 : Int32)), (7, .long x58), (0, .ref (zh G)), (1, .int a1), (3, .int z6.2), (4, .long t54.2.1), (6, .int t54.2.2)]) hx hb dX3_findGrade_282 hl (by decide) rfl (fun ls hl => ?_)
              obtain ⟨z61, e61, b54⟩ := ob b54
              refine m_join (I := fun (_ : Unit) H locs ls => mX G z61 H ∧ va_S (zA G) s.heap H locs ∧ lv_has ls 13 [(0, .ref (zh G)), (1, .int a1), (3, .int z6.2), (6, .int t54.2.2), (7, .long x58)]) 413 (fun _ => []) (fun _ H locs ls hi => ?_) (fun J59_413 => ?_)
              · obtain ⟨hX, hS, hl⟩ := hi
                refine lv_lload hx hb dX3_findGrade_413 (lv_at hl 4 rfl) ?_
                refine lv_lstore (lv' := [(4, .long x58), (0, .ref (zh G)), (1, .int a1), (3, .int z6.2), (6, .int t54.2.2), (7, .long x58)]) hx hb dX3_findGrade_415 hl (by decide) rfl (fun ls hl => ?_)
                refine lv_iinc (v := (t54.2.2 + (1 : Int32))) (k := 4) (lv' := [(6, .int (t54.2.2 + (1 : Int32))), (4, .long x58), (0, .ref (zh G)), (1, .int a1), (3, .int z6.2), (7, .long x58)]) hx hb dX3_findGrade_417 hl rfl rfl (by decide) rfl (fun ls hl => ?_)
                refine lv_goto (tgt := 263) hx hb dX3_findGrade_420 (by decide) ?_
                obtain ⟨g81, hg81⟩ : ∃ g, g = (t54.2.2 + (1 : Int32)) := ⟨_, rfl⟩
                rw [← hg81] at hl b54
                exact k54 _ (Option.some.inj b54).symm _ _ ls ⟨hX, hS, lv_sub hl [2, 3, 4, 1, 0] rfl⟩
              refine m_loop e61 (fun (t59 : mS × Int32) H locs ls => mX G t59.1 H ∧ va_S (zA G) s.heap H locs ∧ lv_has ls 13 [(0, .ref (zh G)), (1, .int a1), (3, .int z6.2), (4, .long t54.2.1), (6, .int t54.2.2), (7, .long x58), (9, .int t59.2)]) 284 ⟨hX, hS, lv_sub hl [2, 3, 4, 5, 6, 1, 0] rfl⟩ (fun t59 y59 b59 w59 k59 H locs ls hi => ?_)
              obtain ⟨hX, hS, hl⟩ := hi
              unfold fm_findGrade_l284 at b59
              refine lv_iload hx hb dX3_findGrade_284 (lv_at hl 6 rfl) ?_
              refine lv_iload_n hx hb dX3_findGrade_286 rfl (lv_at hl 2 rfl) ?_
              refine lv_icmp_ge (tgt := 413) hx hb dX3_findGrade_287 (by decide) (fun c62 => ?_) (fun c62 => ?_)
              · replace b59 := it c62 b59
                replace b59 := lx b59 w59
                subst b59
                exact J59_413 () _ _ ls ⟨hX, hS, lv_sub hl [0, 1, 2, 4, 5] rfl⟩
              · replace b59 := ie c62 b59
                refine lv_iload hx hb dX3_findGrade_290 (lv_at hl 6 rfl) ?_
                refine lv_iload hx hb dX3_findGrade_292 (lv_at hl 4 rfl) ?_
                obtain ⟨x63, r63, b59⟩ := ob b59
                refine m_join (I := fun (t64 : mS) H locs ls => x63 = t64 ∧ mX G t64 H ∧ va_S (zA G) s.heap H locs ∧ lv_has ls 13 [(0, .ref (zh G)), (1, .int a1), (3, .int z6.2), (4, .long t54.2.1), (6, .int t54.2.2), (7, .long x58), (9, .int t59.2)]) 407 (fun t64 => []) (fun t64 H locs ls hi => ?_) (fun J63 => ?_)
                · obtain ⟨rfl, hX, hS, hl⟩ := hi
                  refine lv_iinc (v := (t59.2 + (1 : Int32))) (k := 6) (lv' := [(9, .int (t59.2 + (1 : Int32))), (0, .ref (zh G)), (1, .int a1), (3, .int z6.2), (4, .long t54.2.1), (6, .int t54.2.2), (7, .long x58)]) hx hb dX3_findGrade_407 hl rfl rfl (by decide) rfl (fun ls hl => ?_)
                  refine lv_goto (tgt := 284) hx hb dX3_findGrade_410 (by decide) ?_
                  obtain ⟨g80, hg80⟩ : ∃ g, g = (t59.2 + (1 : Int32)) := ⟨_, rfl⟩
                  rw [← hg80] at hl b59
                  exact k59 _ (Option.some.inj b59).symm _ _ ls ⟨hX, hS, lv_sub hl [1, 2, 3, 4, 5, 6, 0] rfl⟩
                · refine lv_icmp_eq (tgt := 407) hx hb dX3_findGrade_294 (by decide) (fun c65 => ?_) (fun c65 => ?_)
                  · replace r63 := it c65 r63
                    exact J63 _ _ _ ls ⟨(Option.some.inj r63).symm, hX, hS, hl⟩
                  · replace r63 := ie c65 r63
                    refine lv_aload_n hx hb dX3_findGrade_297 rfl (lv_at hl 0 rfl) ?_
                    refine m_ga (k := 78) (d := 2) C q1776 rfl (by decide) hX dX3_findGrade_298 ?_
                    refine lv_bipush (v := 14) hx hb dX3_findGrade_301 (by decide) ?_
                    refine lv_iload hx hb dX3_findGrade_303 (lv_at hl 6 rfl) ?_
                    refine lv_imul hx hb dX3_findGrade_305 ?_
                    refine lv_iload hx hb dX3_findGrade_306 (lv_at hl 4 rfl) ?_
                    refine lv_iadd hx hb dX3_findGrade_308 ?_
                    obtain ⟨x66, e66, r63⟩ := ob r63
                    refine m_ja (k := 78) C rfl hX e66 dX3_findGrade_309 ?_
                    refine lv_lstore (lv' := [(10, .long x66), (0, .ref (zh G)), (1, .int a1), (3, .int z6.2), (4, .long t54.2.1), (6, .int t54.2.2), (7, .long x58), (9, .int t59.2)]) hx hb dX3_findGrade_310 hl (by decide) rfl (fun ls hl => ?_)
                    refine lv_iconst (v := 0) hx hb dX3_findGrade_312 (by decide) ?_
                    refine lv_istore (lv' := [(12, .int (0 : Int32)), (10, .long x66), (0, .ref (zh G)), (1, .int a1), (3, .int z6.2), (4, .long t54.2.1), (6, .int t54.2.2), (7, .long x58), (9, .int t59.2)]) hx hb dX3_findGrade_313 hl (by decide) rfl (fun ls hl => ?_)
                    obtain ⟨z69, e69, r63⟩ := ob r63
                    refine m_join (I := fun (_ : Unit) H locs ls => mX G z69 H ∧ va_S (zA G) s.heap H locs ∧ lv_has ls 13 [(0, .ref (zh G)), (1, .int a1), (3, .int z6.2), (4, .long t54.2.1), (6, .int t54.2.2), (7, .long x58), (9, .int t59.2), (10, .long x66)]) 376 (fun _ => []) (fun _ H locs ls hi => ?_) (fun J67_376 => ?_)
                    · obtain ⟨hX, hS, hl⟩ := hi
                      unfold fm_findGrade_k376 at r63
                      refine lv_aload_n hx hb dX3_findGrade_376 rfl (lv_at hl 0 rfl) ?_
                      refine m_ga (k := 79) (d := 2) C q1777 rfl (by decide) hX dX3_findGrade_377 ?_
                      refine lv_iload hx hb dX3_findGrade_380 (lv_at hl 6 rfl) ?_
                      refine lv_lload hx hb dX3_findGrade_382 (lv_at hl 5 rfl) ?_
                      refine lv_aload_n hx hb dX3_findGrade_384 rfl (lv_at hl 0 rfl) ?_
                      refine m_ga (k := 79) (d := 2) C q1777 rfl (by decide) hX dX3_findGrade_385 ?_
                      refine lv_iload hx hb dX3_findGrade_388 (lv_at hl 6 rfl) ?_
                      obtain ⟨x76, e76, r63⟩ := ob r63
                      refine m_ja (k := 79) C rfl hX e76 dX3_findGrade_390 ?_
                      refine lv_lmul hx hb dX3_findGrade_391 ?_
                      refine lv_lload hx hb dX3_findGrade_392 (lv_at hl 7 rfl) ?_
                      refine lv_aload_n hx hb dX3_findGrade_394 rfl (lv_at hl 0 rfl) ?_
                      refine m_ga (k := 79) (d := 2) C q1777 rfl (by decide) hX dX3_findGrade_395 ?_
                      refine lv_iload hx hb dX3_findGrade_398 (lv_at hl 4 rfl) ?_
                      obtain ⟨x77, e77, r63⟩ := ob r63
                      refine m_ja (k := 79) C rfl hX e77 dX3_findGrade_400 ?_
                      refine lv_lmul hx hb dX3_findGrade_401 ?_
                      refine lv_lsub hx hb dX3_findGrade_402 ?_
                      refine lv_lload hx hb dX3_findGrade_403 (lv_at hl 3 rfl) ?_
                      obtain ⟨x78, e78, r63⟩ := ob r63
                      refine m_jd C e78 dX3_findGrade_405 ?_
                      obtain ⟨x79, e79, r63⟩ := ob r63
                      refine m_js (k := 79) C rfl hX hS e79 dX3_findGrade_406 (fun H locs hX hS => ?_)
                      exact J63 _ _ _ ls ⟨(Option.some.inj r63).symm, hX, hS, lv_sub hl [0, 1, 2, 3, 4, 5, 6] rfl⟩
                    refine m_loop e69 (fun (t67 : mS × Int32) H locs ls => mX G t67.1 H ∧ va_S (zA G) s.heap H locs ∧ lv_has ls 13 [(0, .ref (zh G)), (1, .int a1), (3, .int z6.2), (4, .long t54.2.1), (6, .int t54.2.2), (7, .long x58), (9, .int t59.2), (10, .long x66), (12, .int t67.2)]) 315 ⟨hX, hS, lv_sub hl [2, 3, 4, 5, 6, 7, 8, 1, 0] rfl⟩ (fun t67 y67 b67 w67 k67 H locs ls hi => ?_)
                    obtain ⟨hX, hS, hl⟩ := hi
                    unfold fm_findGrade_l315 at b67
                    refine lv_iload hx hb dX3_findGrade_315 (lv_at hl 8 rfl) ?_
                    refine lv_iload_n hx hb dX3_findGrade_317 rfl (lv_at hl 2 rfl) ?_
                    refine lv_icmp_ge (tgt := 376) hx hb dX3_findGrade_318 (by decide) (fun c70 => ?_) (fun c70 => ?_)
                    · replace b67 := it c70 b67
                      replace b67 := lx b67 w67
                      subst b67
                      exact J67_376 () _ _ ls ⟨hX, hS, lv_sub hl [0, 1, 2, 3, 4, 5, 6, 7] rfl⟩
                    · replace b67 := ie c70 b67
                      refine lv_aload_n hx hb dX3_findGrade_321 rfl (lv_at hl 0 rfl) ?_
                      refine m_ga (k := 78) (d := 2) C q1776 rfl (by decide) hX dX3_findGrade_322 ?_
                      refine lv_bipush (v := 14) hx hb dX3_findGrade_325 (by decide) ?_
                      refine lv_iload hx hb dX3_findGrade_327 (lv_at hl 6 rfl) ?_
                      refine lv_imul hx hb dX3_findGrade_329 ?_
                      refine lv_iload hx hb dX3_findGrade_330 (lv_at hl 8 rfl) ?_
                      refine lv_iadd hx hb dX3_findGrade_332 ?_
                      refine lv_lload hx hb dX3_findGrade_333 (lv_at hl 5 rfl) ?_
                      refine lv_aload_n hx hb dX3_findGrade_335 rfl (lv_at hl 0 rfl) ?_
                      refine m_ga (k := 78) (d := 2) C q1776 rfl (by decide) hX dX3_findGrade_336 ?_
                      refine lv_bipush (v := 14) hx hb dX3_findGrade_339 (by decide) ?_
                      refine lv_iload hx hb dX3_findGrade_341 (lv_at hl 6 rfl) ?_
                      refine lv_imul hx hb dX3_findGrade_343 ?_
                      refine lv_iload hx hb dX3_findGrade_344 (lv_at hl 8 rfl) ?_
                      refine lv_iadd hx hb dX3_findGrade_346 ?_
                      obtain ⟨x71, e71, b67⟩ := ob b67
                      refine m_ja (k := 78) C rfl hX e71 dX3_findGrade_347 ?_
                      refine lv_lmul hx hb dX3_findGrade_348 ?_
                      refine lv_lload hx hb dX3_findGrade_349 (lv_at hl 7 rfl) ?_
                      refine lv_aload_n hx hb dX3_findGrade_351 rfl (lv_at hl 0 rfl) ?_
                      refine m_ga (k := 78) (d := 2) C q1776 rfl (by decide) hX dX3_findGrade_352 ?_
                      refine lv_bipush (v := 14) hx hb dX3_findGrade_355 (by decide) ?_
                      refine lv_iload hx hb dX3_findGrade_357 (lv_at hl 4 rfl) ?_
                      refine lv_imul hx hb dX3_findGrade_359 ?_
                      refine lv_iload hx hb dX3_findGrade_360 (lv_at hl 8 rfl) ?_
                      refine lv_iadd hx hb dX3_findGrade_362 ?_
                      obtain ⟨x72, e72, b67⟩ := ob b67
                      refine m_ja (k := 78) C rfl hX e72 dX3_findGrade_363 ?_
                      refine lv_lmul hx hb dX3_findGrade_364 ?_
                      refine lv_lsub hx hb dX3_findGrade_365 ?_
                      refine lv_lload hx hb dX3_findGrade_366 (lv_at hl 3 rfl) ?_
                      obtain ⟨x73, e73, b67⟩ := ob b67
                      refine m_jd C e73 dX3_findGrade_368 ?_
                      obtain ⟨x74, e74, b67⟩ := ob b67
                      refine m_js (k := 78) C rfl hX hS e74 dX3_findGrade_369 (fun H locs hX hS => ?_)
                      refine lv_iinc (v := (t67.2 + (1 : Int32))) (k := 8) (lv' := [(12, .int (t67.2 + (1 : Int32))), (0, .ref (zh G)), (1, .int a1), (3, .int z6.2), (4, .long t54.2.1), (6, .int t54.2.2), (7, .long x58), (9, .int t59.2), (10, .long x66)]) hx hb dX3_findGrade_370 hl rfl rfl (by decide) rfl (fun ls hl => ?_)
                      refine lv_goto (tgt := 315) hx hb dX3_findGrade_373 (by decide) ?_
                      obtain ⟨g75, hg75⟩ : ∃ g, g = (t67.2 + (1 : Int32)) := ⟨_, rfl⟩
                      rw [← hg75] at hl b67
                      exact k67 _ (Option.some.inj b67).symm _ _ ls ⟨hX, hS, lv_sub hl [1, 2, 3, 4, 5, 6, 7, 8, 0] rfl⟩
          refine m_loop e33 (fun (t31 : mS × Int32) H locs ls => mX G t31.1 H ∧ va_S (zA G) s.heap H locs ∧ lv_has ls 13 [(0, .ref (zh G)), (1, .int a1), (3, .int z6.2), (4, .int t31.2)]) 143 ⟨hX, hS, lv_sub hl [1, 2, 3, 0] rfl⟩ (fun t31 y31 b31 w31 k31 H locs ls hi => ?_)
          obtain ⟨hX, hS, hl⟩ := hi
          unfold fm_findGrade_l143 at b31
          refine lv_iload hx hb dX3_findGrade_143 (lv_at hl 3 rfl) ?_
          refine lv_aload_n hx hb dX3_findGrade_145 rfl (lv_at hl 0 rfl) ?_
          refine m_gi (k := 73) C q1771 rfl hX dX3_findGrade_146 ?_
          refine lv_icmp_ge (tgt := 257) hx hb dX3_findGrade_149 (by decide) (fun c34 => ?_) (fun c34 => ?_)
          · replace b31 := it c34 b31
            replace b31 := lx b31 w31
            subst b31
            exact J31_257 () _ _ ls ⟨hX, hS, lv_sub hl [0, 1, 2] rfl⟩
          · replace b31 := ie c34 b31
            refine lv_aload_n hx hb dX3_findGrade_152 rfl (lv_at hl 0 rfl) ?_
            refine m_ga (k := 77) (d := 0) C q1775 rfl (by decide) hX dX3_findGrade_153 ?_
            refine lv_aload_n hx hb dX3_findGrade_156 rfl (lv_at hl 0 rfl) ?_
            refine m_ga (k := 74) (d := 0) C q1772 rfl (by decide) hX dX3_findGrade_157 ?_
            refine lv_iload hx hb dX3_findGrade_160 (lv_at hl 3 rfl) ?_
            obtain ⟨x35, e35, b31⟩ := ob b31
            refine m_ia (k := 74) C rfl hX e35 dX3_findGrade_162 ?_
            obtain ⟨x36, e36, b31⟩ := ob b31
            refine m_ia (k := 77) C rfl hX e36 dX3_findGrade_163 ?_
            refine lv_aload_n hx hb dX3_findGrade_164 rfl (lv_at hl 0 rfl) ?_
            refine m_ga (k := 77) (d := 0) C q1775 rfl (by decide) hX dX3_findGrade_165 ?_
            refine lv_iload_n hx hb dX3_findGrade_168 rfl (lv_at hl 1 rfl) ?_
            obtain ⟨x37, e37, b31⟩ := ob b31
            refine m_ia (k := 77) C rfl hX e37 dX3_findGrade_169 ?_
            obtain ⟨x38, r38, b31⟩ := ob b31
            refine m_join (I := fun (t39 : mS) H locs ls => x38 = t39 ∧ mX G t39 H ∧ va_S (zA G) s.heap H locs ∧ lv_has ls 13 [(0, .ref (zh G)), (1, .int a1), (3, .int z6.2), (4, .int t31.2)]) 251 (fun t39 => []) (fun t39 H locs ls hi => ?_) (fun J38 => ?_)
            · obtain ⟨rfl, hX, hS, hl⟩ := hi
              refine lv_iinc (v := (t31.2 + (1 : Int32))) (k := 3) (lv' := [(4, .int (t31.2 + (1 : Int32))), (0, .ref (zh G)), (1, .int a1), (3, .int z6.2)]) hx hb dX3_findGrade_251 hl rfl rfl (by decide) rfl (fun ls hl => ?_)
              refine lv_goto (tgt := 143) hx hb dX3_findGrade_254 (by decide) ?_
              obtain ⟨g53, hg53⟩ : ∃ g, g = (t31.2 + (1 : Int32)) := ⟨_, rfl⟩
              rw [← hg53] at hl b31
              exact k31 _ (Option.some.inj b31).symm _ _ ls ⟨hX, hS, lv_sub hl [1, 2, 3, 0] rfl⟩
            · refine lv_icmp_ne (tgt := 251) hx hb dX3_findGrade_170 (by decide) (fun c40 => ?_) (fun c40 => ?_)
              · replace r38 := ie c40 r38
                exact J38 _ _ _ ls ⟨(Option.some.inj r38).symm, hX, hS, hl⟩
              · replace r38 := it c40 r38
                refine lv_aload_n hx hb dX3_findGrade_173 rfl (lv_at hl 0 rfl) ?_
                refine lv_aload_n hx hb dX3_findGrade_174 rfl (lv_at hl 0 rfl) ?_
                refine m_ga (k := 80) (d := 0) C q1778 rfl (by decide) hX dX3_findGrade_175 ?_
                refine lv_aload_n hx hb dX3_findGrade_178 rfl (lv_at hl 0 rfl) ?_
                refine m_ga (k := 74) (d := 0) C q1772 rfl (by decide) hX dX3_findGrade_179 ?_
                refine lv_iload hx hb dX3_findGrade_182 (lv_at hl 3 rfl) ?_
                obtain ⟨x41, e41, r38⟩ := ob r38
                refine m_ia (k := 74) C rfl hX e41 dX3_findGrade_184 ?_
                obtain ⟨x42, e42, r38⟩ := ob r38
                refine m_ia (k := 80) C rfl hX e42 dX3_findGrade_185 ?_
                refine lv_aload_n hx hb dX3_findGrade_186 rfl (lv_at hl 0 rfl) ?_
                refine m_ga (k := 80) (d := 0) C q1778 rfl (by decide) hX dX3_findGrade_187 ?_
                refine lv_bipush (v := 6) hx hb dX3_findGrade_190 (by decide) ?_
                refine lv_aload_n hx hb dX3_findGrade_192 rfl (lv_at hl 0 rfl) ?_
                refine m_ga (k := 75) (d := 0) C q1773 rfl (by decide) hX dX3_findGrade_193 ?_
                refine lv_iload hx hb dX3_findGrade_196 (lv_at hl 3 rfl) ?_
                obtain ⟨x43, e43, r38⟩ := ob r38
                refine m_ia (k := 75) C rfl hX e43 dX3_findGrade_198 ?_
                refine lv_iadd hx hb dX3_findGrade_199 ?_
                obtain ⟨x44, e44, r38⟩ := ob r38
                refine m_ia (k := 80) C rfl hX e44 dX3_findGrade_200 ?_
                refine lv_aload_n hx hb dX3_findGrade_201 rfl (lv_at hl 0 rfl) ?_
                refine m_ga (k := 76) (d := 0) C q1774 rfl (by decide) hX dX3_findGrade_202 ?_
                refine lv_iload hx hb dX3_findGrade_205 (lv_at hl 3 rfl) ?_
                obtain ⟨x45, e45, r38⟩ := ob r38
                refine m_ia (k := 76) C rfl hX e45 dX3_findGrade_207 ?_
                refine lv_i2l (v := x45.toInt64) hx hb dX3_findGrade_208 rfl ?_
                obtain ⟨x46, e46, r38⟩ := ob r38
                refine m_cvv (As := [.int x42, .int x44, .long x45.toInt64]) (rest := []) C hX hS hl.1 (cm_adds l G hG t31.1 x42 x44 x45.toInt64 e46) (cwV 3 hts (lw_V q2368 q2370 qs100 q109 q2371) rfl rfl rfl (by decide +kernel) ⟨Nat.le_of_ble_eq_true rfl, Nat.le_of_ble_eq_true rfl⟩) rfl rfl (Nat.le_of_ble_eq_true rfl) dX3_findGrade_209 (fun H locs hX hS => ?_)
                refine lv_aload_n hx hb dX3_findGrade_212 rfl (lv_at hl 0 rfl) ?_
                refine lv_aload_n hx hb dX3_findGrade_213 rfl (lv_at hl 0 rfl) ?_
                refine m_ga (k := 80) (d := 0) C q1778 rfl (by decide) hX dX3_findGrade_214 ?_
                refine lv_bipush (v := 6) hx hb dX3_findGrade_217 (by decide) ?_
                refine lv_aload_n hx hb dX3_findGrade_219 rfl (lv_at hl 0 rfl) ?_
                refine m_ga (k := 75) (d := 0) C q1773 rfl (by decide) hX dX3_findGrade_220 ?_
                refine lv_iload hx hb dX3_findGrade_223 (lv_at hl 3 rfl) ?_
                obtain ⟨x47, e47, r38⟩ := ob r38
                refine m_ia (k := 75) C rfl hX e47 dX3_findGrade_225 ?_
                refine lv_iadd hx hb dX3_findGrade_226 ?_
                obtain ⟨x48, e48, r38⟩ := ob r38
                refine m_ia (k := 80) C rfl hX e48 dX3_findGrade_227 ?_
                refine lv_aload_n hx hb dX3_findGrade_228 rfl (lv_at hl 0 rfl) ?_
                refine m_ga (k := 80) (d := 0) C q1778 rfl (by decide) hX dX3_findGrade_229 ?_
                refine lv_aload_n hx hb dX3_findGrade_232 rfl (lv_at hl 0 rfl) ?_
                refine m_ga (k := 74) (d := 0) C q1772 rfl (by decide) hX dX3_findGrade_233 ?_
                refine lv_iload hx hb dX3_findGrade_236 (lv_at hl 3 rfl) ?_
                obtain ⟨x49, e49, r38⟩ := ob r38
                refine m_ia (k := 74) C rfl hX e49 dX3_findGrade_238 ?_
                obtain ⟨x50, e50, r38⟩ := ob r38
                refine m_ia (k := 80) C rfl hX e50 dX3_findGrade_239 ?_
                refine lv_aload_n hx hb dX3_findGrade_240 rfl (lv_at hl 0 rfl) ?_
                refine m_ga (k := 76) (d := 0) C q1774 rfl (by decide) hX dX3_findGrade_241 ?_
                refine lv_iload hx hb dX3_findGrade_244 (lv_at hl 3 rfl) ?_
                obtain ⟨x51, e51, r38⟩ := ob r38
                refine m_ia (k := 76) C rfl hX e51 dX3_findGrade_246 ?_
                refine lv_i2l (v := x51.toInt64) hx hb dX3_findGrade_247 rfl ?_
                obtain ⟨x52, e52, r38⟩ := ob r38
                refine m_cvv (As := [.int x48, .int x50, .long x51.toInt64]) (rest := []) C hX hS hl.1 (cm_adds l G hG x46 x48 x50 x51.toInt64 e52) (cwV 3 hts (lw_V q2368 q2370 qs100 q109 q2371) rfl rfl rfl (by decide +kernel) ⟨Nat.le_of_ble_eq_true rfl, Nat.le_of_ble_eq_true rfl⟩) rfl rfl (Nat.le_of_ble_eq_true rfl) dX3_findGrade_248 (fun H locs hX hS => ?_)
                exact J38 _ _ _ ls ⟨(Option.some.inj r38).symm, hX, hS, hl⟩
        refine m_loop e27 (fun (t25 : mS × Int32) H locs ls => mX G t25.1 H ∧ va_S (zA G) s.heap H locs ∧ lv_has ls 13 [(0, .ref (zh G)), (1, .int a1), (3, .int z6.2), (4, .int t25.2)]) 119 ⟨hX, hS, lv_sub hl [1, 2, 3, 0] rfl⟩ (fun t25 y25 b25 w25 k25 H locs ls hi => ?_)
        obtain ⟨hX, hS, hl⟩ := hi
        unfold fm_findGrade_l119 at b25
        refine lv_iload hx hb dX3_findGrade_119 (lv_at hl 3 rfl) ?_
        refine lv_bipush (v := 14) hx hb dX3_findGrade_121 (by decide) ?_
        refine lv_icmp_ge (tgt := 140) hx hb dX3_findGrade_123 (by decide) (fun c28 => ?_) (fun c28 => ?_)
        · replace b25 := it c28 b25
          replace b25 := lx b25 w25
          subst b25
          exact J25_140 () _ _ ls ⟨hX, hS, lv_sub hl [0, 1, 2] rfl⟩
        · replace b25 := ie c28 b25
          refine lv_aload_n hx hb dX3_findGrade_126 rfl (lv_at hl 0 rfl) ?_
          refine m_ga (k := 79) (d := 2) C q1777 rfl (by decide) hX dX3_findGrade_127 ?_
          refine lv_iload hx hb dX3_findGrade_130 (lv_at hl 3 rfl) ?_
          refine lv_lconst (v := 0) hx hb dX3_findGrade_132 (by decide) ?_
          obtain ⟨x29, e29, b25⟩ := ob b25
          refine m_js (k := 79) C rfl hX hS e29 dX3_findGrade_133 (fun H locs hX hS => ?_)
          refine lv_iinc (v := (t25.2 + (1 : Int32))) (k := 3) (lv' := [(4, .int (t25.2 + (1 : Int32))), (0, .ref (zh G)), (1, .int a1), (3, .int z6.2)]) hx hb dX3_findGrade_134 hl rfl rfl (by decide) rfl (fun ls hl => ?_)
          refine lv_goto (tgt := 119) hx hb dX3_findGrade_137 (by decide) ?_
          obtain ⟨g30, hg30⟩ : ∃ g, g = (t25.2 + (1 : Int32)) := ⟨_, rfl⟩
          rw [← hg30] at hl b25
          exact k25 _ (Option.some.inj b25).symm _ _ ls ⟨hX, hS, lv_sub hl [1, 2, 3, 0] rfl⟩
      refine m_loop e21 (fun (t19 : mS × Int32) H locs ls => mX G t19.1 H ∧ va_S (zA G) s.heap H locs ∧ lv_has ls 13 [(0, .ref (zh G)), (1, .int a1), (3, .int z6.2), (4, .int t19.2)]) 94 ⟨hX, hS, lv_sub hl [1, 2, 4, 0] rfl⟩ (fun t19 y19 b19 w19 k19 H locs ls hi => ?_)
      obtain ⟨hX, hS, hl⟩ := hi
      unfold fm_findGrade_l94 at b19
      refine lv_iload hx hb dX3_findGrade_94 (lv_at hl 3 rfl) ?_
      refine lv_sipush (v := 196) hx hb dX3_findGrade_96 (by decide) ?_
      refine lv_icmp_ge (tgt := 116) hx hb dX3_findGrade_99 (by decide) (fun c22 => ?_) (fun c22 => ?_)
      · replace b19 := it c22 b19
        replace b19 := lx b19 w19
        subst b19
        exact J19_116 () _ _ ls ⟨hX, hS, lv_sub hl [0, 1, 2] rfl⟩
      · replace b19 := ie c22 b19
        refine lv_aload_n hx hb dX3_findGrade_102 rfl (lv_at hl 0 rfl) ?_
        refine m_ga (k := 78) (d := 2) C q1776 rfl (by decide) hX dX3_findGrade_103 ?_
        refine lv_iload hx hb dX3_findGrade_106 (lv_at hl 3 rfl) ?_
        refine lv_lconst (v := 0) hx hb dX3_findGrade_108 (by decide) ?_
        obtain ⟨x23, e23, b19⟩ := ob b19
        refine m_js (k := 78) C rfl hX hS e23 dX3_findGrade_109 (fun H locs hX hS => ?_)
        refine lv_iinc (v := (t19.2 + (1 : Int32))) (k := 3) (lv' := [(4, .int (t19.2 + (1 : Int32))), (0, .ref (zh G)), (1, .int a1), (3, .int z6.2)]) hx hb dX3_findGrade_110 hl rfl rfl (by decide) rfl (fun ls hl => ?_)
        refine lv_goto (tgt := 94) hx hb dX3_findGrade_113 (by decide) ?_
        obtain ⟨g24, hg24⟩ : ∃ g, g = (t19.2 + (1 : Int32)) := ⟨_, rfl⟩
        rw [← hg24] at hl b19
        exact k19 _ (Option.some.inj b19).symm _ _ ls ⟨hX, hS, lv_sub hl [1, 2, 3, 0] rfl⟩
    · replace hr := it c18 hr
      refine lv_aload_n hx hb dX3_findGrade_80 rfl (lv_at hl 0 rfl) ?_
      refine lv_lconst (v := 0) hx hb dX3_findGrade_81 (by decide) ?_
      obtain ⟨x85, e85, hr⟩ := ob hr
      refine m_pj (k := 81) C q1779 rfl hX hS e85 dX3_findGrade_82 (fun H locs hX hS => ?_)
      refine lv_aload_n hx hb dX3_findGrade_85 rfl (lv_at hl 0 rfl) ?_
      refine lv_lconst (v := 1) hx hb dX3_findGrade_86 (by decide) ?_
      obtain ⟨x86, e86, hr⟩ := ob hr
      refine m_pj (k := 82) C q1780 rfl hX hS e86 dX3_findGrade_87 (fun H locs hX hS => ?_)
      exact m_rvw (C := C) hret hlk hX hS (Option.some.inj hr) dX3_findGrade_90
  refine m_loop e6 (fun (t4 : mS × Int32 × Int32) H locs ls => mX G t4.1 H ∧ va_S (zA G) s.heap H locs ∧ lv_has ls 13 [(0, .ref (zh G)), (1, .int a1), (2, .int x3), (3, .int t4.2.1), (4, .int t4.2.2)]) 20 ⟨hX, hS, lv_sub hl [3, 4, 2, 1, 0] rfl⟩ (fun t4 y4 b4 w4 k4 H locs ls hi => ?_)
  obtain ⟨hX, hS, hl⟩ := hi
  unfold fm_findGrade_l20 at b4
  refine lv_iload hx hb dX3_findGrade_20 (lv_at hl 4 rfl) ?_
  refine lv_bipush (v := 14) hx hb dX3_findGrade_22 (by decide) ?_
  refine lv_icmp_ge (tgt := 75) hx hb dX3_findGrade_24 (by decide) (fun c7 => ?_) (fun c7 => ?_)
  · replace b4 := it c7 b4
    replace b4 := lx b4 w4
    subst b4
    exact J4_75 () _ _ ls ⟨hX, hS, lv_sub hl [0, 1, 2, 3] rfl⟩
  · replace b4 := ie c7 b4
    refine lv_aload_n hx hb dX3_findGrade_27 rfl (lv_at hl 0 rfl) ?_
    refine m_ga (k := 80) (d := 0) C q1778 rfl (by decide) hX dX3_findGrade_28 ?_
    refine lv_iload hx hb dX3_findGrade_31 (lv_at hl 4 rfl) ?_
    refine lv_bipush (v := -4) hx hb dX3_findGrade_33 (by decide) ?_
    obtain ⟨x8, e8, b4⟩ := ob b4
    refine m_is (k := 80) C rfl hX hS e8 dX3_findGrade_35 (fun H locs hX hS => ?_)
    refine lv_aload_n hx hb dX3_findGrade_36 rfl (lv_at hl 0 rfl) ?_
    refine m_ga (k := 77) (d := 0) C q1775 rfl (by decide) hX dX3_findGrade_37 ?_
    refine lv_iload hx hb dX3_findGrade_40 (lv_at hl 4 rfl) ?_
    obtain ⟨x9, e9, b4⟩ := ob b4
    refine m_ia (k := 77) C rfl hX e9 dX3_findGrade_42 ?_
    refine lv_aload_n hx hb dX3_findGrade_43 rfl (lv_at hl 0 rfl) ?_
    refine m_ga (k := 77) (d := 0) C q1775 rfl (by decide) hX dX3_findGrade_44 ?_
    refine lv_iload_n hx hb dX3_findGrade_47 rfl (lv_at hl 1 rfl) ?_
    obtain ⟨x10, e10, b4⟩ := ob b4
    refine m_ia (k := 77) C rfl hX e10 dX3_findGrade_48 ?_
    obtain ⟨x11, r11, b4⟩ := ob b4
    refine m_join (I := fun (t12 : mS × Int32) H locs ls => x11 = t12 ∧ mX G t12.1 H ∧ va_S (zA G) s.heap H locs ∧ lv_has ls 13 [(0, .ref (zh G)), (1, .int a1), (2, .int x3), (3, .int t12.2), (4, .int t4.2.2)]) 69 (fun t12 => []) (fun t12 H locs ls hi => ?_) (fun J11 => ?_)
    · obtain ⟨rfl, hX, hS, hl⟩ := hi
      refine lv_iinc (v := (t4.2.2 + (1 : Int32))) (k := 4) (lv' := [(4, .int (t4.2.2 + (1 : Int32))), (0, .ref (zh G)), (1, .int a1), (2, .int x3), (3, .int x11.2)]) hx hb dX3_findGrade_69 hl rfl rfl (by decide) rfl (fun ls hl => ?_)
      refine lv_goto (tgt := 20) hx hb dX3_findGrade_72 (by decide) ?_
      obtain ⟨g17, hg17⟩ : ∃ g, g = (t4.2.2 + (1 : Int32)) := ⟨_, rfl⟩
      rw [← hg17] at hl b4
      exact k4 _ (Option.some.inj b4).symm _ _ ls ⟨hX, hS, lv_sub hl [1, 2, 3, 4, 0] rfl⟩
    · refine lv_icmp_ne (tgt := 69) hx hb dX3_findGrade_49 (by decide) (fun c13 => ?_) (fun c13 => ?_)
      · replace r11 := ie c13 r11
        exact J11 _ _ _ ls ⟨(Option.some.inj r11).symm, hX, hS, hl⟩
      · replace r11 := it c13 r11
        refine lv_iload hx hb dX3_findGrade_52 (lv_at hl 4 rfl) ?_
        refine lv_iload_n hx hb dX3_findGrade_54 rfl (lv_at hl 2 rfl) ?_
        refine lv_icmp_eq (tgt := 69) hx hb dX3_findGrade_55 (by decide) (fun c14 => ?_) (fun c14 => ?_)
        · replace r11 := it c14 r11
          exact J11 _ _ _ ls ⟨(Option.some.inj r11).symm, hX, hS, hl⟩
        · replace r11 := ie c14 r11
          refine lv_aload_n hx hb dX3_findGrade_58 rfl (lv_at hl 0 rfl) ?_
          refine m_ga (k := 80) (d := 0) C q1778 rfl (by decide) hX dX3_findGrade_59 ?_
          refine lv_iload hx hb dX3_findGrade_62 (lv_at hl 4 rfl) ?_
          refine lv_iload_n hx hb dX3_findGrade_64 rfl (lv_at hl 3 rfl) ?_
          obtain ⟨x15, e15, r11⟩ := ob r11
          refine m_is (k := 80) C rfl hX hS e15 dX3_findGrade_65 (fun H locs hX hS => ?_)
          refine lv_iinc (v := (t4.2.1 + (1 : Int32))) (k := 3) (lv' := [(3, .int (t4.2.1 + (1 : Int32))), (0, .ref (zh G)), (1, .int a1), (2, .int x3), (4, .int t4.2.2)]) hx hb dX3_findGrade_66 hl rfl rfl (by decide) rfl (fun ls hl => ?_)
          obtain ⟨g16, hg16⟩ : ∃ g, g = (t4.2.1 + (1 : Int32)) := ⟨_, rfl⟩
          rw [← hg16] at hl r11
          exact J11 _ _ _ ls ⟨(Option.some.inj r11).symm, hX, hS, lv_sub hl [1, 2, 3, 0, 4] rfl⟩

def fm_grade_k63 (a3 : Int32) (x8 : mS) (x9 : Int32) : Option ((mS × Int64)) :=
  (aI x8 77 x9).bind fun x13 =>
  (if x13 = (-4 : Int32) then
  some (x8, (-1000000000004 : Int64))
  else
  (fm_findGrade x8 x9).bind fun x15 =>
  (if a3 = 0 then
  some (x15, (gJ x15 81))
  else
  some (x15, (gJ x15 82))))
def fm_grade_k47 (S : mS) (a1 : Int32) (a2 : Int32) (a3 : Int32) (t4 : Unit) : Option ((mS × Int64)) :=
  (fm_findLots S).bind fun x8 =>
  (((if a1 = 0 then
  some a2
  else
  some ((6 : Int32) + a2)) : Option (Int32))).bind (fun x9 => fm_grade_k63 a3 x8 x9)
def fm_grade (S : mS) (a1 : Int32) (a2 : Int32) (a3 : Int32) : Option (mS × Int64) :=
  (if (fm_in a1.toInt64 (0 : Int64) (1 : Int64)) = 0 then
  some (S, (-1000000000000 : Int64))
  else
  (if (fm_in a3.toInt64 (0 : Int64) (1 : Int64)) = 0 then
  some (S, (-1000000000000 : Int64))
  else
  (((if a1 = 0 then
  (if (fm_isRoute S a2) = 0 then
  some (.inr (some (S, (-1000000000000 : Int64))))
  else
  some (.inl ()))
  else
  (if (fm_isGuide S a2) = 0 then
  some (.inr (some (S, (-1000000000000 : Int64))))
  else
  some (.inl ()))) : Option ((Unit) ⊕ Option ((mS × Int64))))).bind (sumK (fun t4 => fm_grade_k47 S a1 a2 a3 t4) (fun z => z))))
set_option maxHeartbeats 4000000 in
set_option maxRecDepth 100000 in
theorem cm_grade (l : Launch) (G : mGh) (hG : mOk G) (S : mS) (a1 : Int32) (a2 : Int32) (a3 : Int32) {S' : mS} {r : Int64} (hr : fm_grade S a1 a2 a3 = some (S', r)) : Met l yX3_grade (ws_ yX3_grade cX3_grade 5 (some .long)) ({ frames := 2, cells := 0, slots := 0, locals := 62 } : Room) (mPc G [.int a1, .int a2, .int a3] S) (mQl G r S') 0 0 (zA G) := by
  refine m_met cX3_grade (by decide) rfl hG (Nat.le_of_ble_eq_true rfl) (fun p e s m args below meth c C hret hlk ls hX hl => ?_)
  have hx := C.1.1
  have hb := C.1.2.1
  have hown := C.1.2.2.2.1
  have hts := C.1.2.2.2.2
  have hS : va_S (zA G) s.heap s.heap [] := va_S.rf
  have hl : lv_has ls 5 [(0, .ref (zh G)), (1, .int a1), (2, .int a2), (3, .int a3)] := hl
  unfold fm_grade at hr
  refine lv_iload_n hx hb dX3_grade_0 rfl (lv_at hl 1 rfl) ?_
  refine lv_i2l (v := a1.toInt64) hx hb dX3_grade_1 rfl ?_
  refine lv_lconst (v := 0) hx hb dX3_grade_2 (by decide) ?_
  refine lv_lconst (v := 1) hx hb dX3_grade_3 (by decide) ?_
  refine m_csi (As := [.long a1.toInt64, .long (0 : Int64), .long (1 : Int64)]) (rest := []) C hX hS hl.1 (cm_in l a1.toInt64 (0 : Int64) (1 : Int64) rfl) (va_cwS 3 hts (lw_S q1974 q1975 q109 q1976) rfl rfl rfl (by decide +kernel) ⟨Nat.le_of_ble_eq_true rfl, Nat.le_of_ble_eq_true rfl⟩) rfl rfl (Nat.le_of_ble_eq_true rfl) dX3_grade_4 (fun H locs hX hS => ?_)
  refine lv_if_eq (tgt := 43) hx hb dX3_grade_7 (by decide) (fun c1 => ?_) (fun c1 => ?_)
  · replace hr := it c1 hr
    refine lv_ldc2 hx hb hown (hts _ q2354) dX3_grade_43 ?_
    exact m_rlw (C := C) hret hlk hX hS (Option.some.inj hr) dX3_grade_46
  · replace hr := ie c1 hr
    refine lv_iload_n hx hb dX3_grade_10 rfl (lv_at hl 3 rfl) ?_
    refine lv_i2l (v := a3.toInt64) hx hb dX3_grade_11 rfl ?_
    refine lv_lconst (v := 0) hx hb dX3_grade_12 (by decide) ?_
    refine lv_lconst (v := 1) hx hb dX3_grade_13 (by decide) ?_
    refine m_csi (As := [.long a3.toInt64, .long (0 : Int64), .long (1 : Int64)]) (rest := []) C hX hS hl.1 (cm_in l a3.toInt64 (0 : Int64) (1 : Int64) rfl) (va_cwS 3 hts (lw_S q1974 q1975 q109 q1976) rfl rfl rfl (by decide +kernel) ⟨Nat.le_of_ble_eq_true rfl, Nat.le_of_ble_eq_true rfl⟩) rfl rfl (Nat.le_of_ble_eq_true rfl) dX3_grade_14 (fun H locs hX hS => ?_)
    refine lv_if_eq (tgt := 43) hx hb dX3_grade_17 (by decide) (fun c2 => ?_) (fun c2 => ?_)
    · replace hr := it c2 hr
      refine lv_ldc2 hx hb hown (hts _ q2354) dX3_grade_43 ?_
      exact m_rlw (C := C) hret hlk hX hS (Option.some.inj hr) dX3_grade_46
    · replace hr := ie c2 hr
      refine lv_iload_n hx hb dX3_grade_20 rfl (lv_at hl 1 rfl) ?_
      obtain ⟨x3, r3, hr⟩ := ob hr
      refine m_join (I := fun (t4 : Unit) H locs ls => x3 = .inl t4 ∧ mX G S H ∧ va_S (zA G) s.heap H locs ∧ lv_has ls 5 [(0, .ref (zh G)), (1, .int a1), (2, .int a2), (3, .int a3)]) 47 (fun t4 => []) (fun t4 H locs ls hi => ?_) (fun J3 => ?_)
      · obtain ⟨rfl, hX, hS, hl⟩ := hi
        replace hr := sk_l hr
        unfold fm_grade_k47 at hr
        refine lv_aload_n hx hb dX3_grade_47 rfl (lv_at hl 0 rfl) ?_
        obtain ⟨x8, e8, hr⟩ := ob hr
        refine m_cvv (As := []) (rest := []) C hX hS hl.1 (cm_findLots l G hG S  e8) (cwV 0 hts (lw_V q2355 q2357 qs97 q109 q2358) rfl rfl rfl (by decide +kernel) ⟨Nat.le_of_ble_eq_true rfl, Nat.le_of_ble_eq_true rfl⟩) rfl rfl (Nat.le_of_ble_eq_true rfl) dX3_grade_48 (fun H locs hX hS => ?_)
        refine lv_iload_n hx hb dX3_grade_51 rfl (lv_at hl 1 rfl) ?_
        obtain ⟨x9, r9, hr⟩ := ob hr
        refine m_join (I := fun (t10 : Int32) H locs ls => x9 = t10 ∧ mX G x8 H ∧ va_S (zA G) s.heap H locs ∧ lv_has ls 5 [(0, .ref (zh G)), (3, .int a3)]) 63 (fun t10 => [.int t10]) (fun t10 H locs ls hi => ?_) (fun J9 => ?_)
        · obtain ⟨rfl, hX, hS, hl⟩ := hi
          unfold fm_grade_k63 at hr
          refine lv_istore (lv' := [(4, .int x9), (0, .ref (zh G)), (3, .int a3)]) hx hb dX3_grade_63 hl (by decide) rfl (fun ls hl => ?_)
          refine lv_aload_n hx hb dX3_grade_65 rfl (lv_at hl 1 rfl) ?_
          refine m_ga (k := 77) (d := 0) C q1775 rfl (by decide) hX dX3_grade_66 ?_
          refine lv_iload hx hb dX3_grade_69 (lv_at hl 0 rfl) ?_
          obtain ⟨x13, e13, hr⟩ := ob hr
          refine m_ia (k := 77) C rfl hX e13 dX3_grade_71 ?_
          refine lv_bipush (v := -4) hx hb dX3_grade_72 (by decide) ?_
          refine lv_icmp_ne (tgt := 81) hx hb dX3_grade_74 (by decide) (fun c14 => ?_) (fun c14 => ?_)
          · replace hr := ie c14 hr
            refine lv_aload_n hx hb dX3_grade_81 rfl (lv_at hl 1 rfl) ?_
            refine lv_iload hx hb dX3_grade_82 (lv_at hl 0 rfl) ?_
            obtain ⟨x15, e15, hr⟩ := ob hr
            refine m_cvv (As := [.int x9]) (rest := []) C hX hS hl.1 (cm_findGrade l G hG x8 x9 e15) (cwV 1 hts (lw_V q2360 q2362 qs98 q109 q2363) rfl rfl rfl (by decide +kernel) ⟨Nat.le_of_ble_eq_true rfl, Nat.le_of_ble_eq_true rfl⟩) rfl rfl (Nat.le_of_ble_eq_true rfl) dX3_grade_84 (fun H locs hX hS => ?_)
            refine lv_iload_n hx hb dX3_grade_87 rfl (lv_at hl 2 rfl) ?_
            refine lv_if_ne (tgt := 98) hx hb dX3_grade_88 (by decide) (fun c16 => ?_) (fun c16 => ?_)
            · replace hr := ie c16 hr
              refine lv_aload_n hx hb dX3_grade_98 rfl (lv_at hl 1 rfl) ?_
              refine m_gj (k := 82) C q1780 rfl hX dX3_grade_99 ?_
              exact m_rlw (C := C) hret hlk hX hS (Option.some.inj hr) dX3_grade_102
            · replace hr := it c16 hr
              refine lv_aload_n hx hb dX3_grade_91 rfl (lv_at hl 1 rfl) ?_
              refine m_gj (k := 81) C q1779 rfl hX dX3_grade_92 ?_
              refine lv_goto (tgt := 102) hx hb dX3_grade_95 (by decide) ?_
              exact m_rlw (C := C) hret hlk hX hS (Option.some.inj hr) dX3_grade_102
          · replace hr := it c14 hr
            refine lv_ldc2 hx hb hown (hts _ q2359) dX3_grade_77 ?_
            exact m_rlw (C := C) hret hlk hX hS (Option.some.inj hr) dX3_grade_80
        · refine lv_if_ne (tgt := 59) hx hb dX3_grade_52 (by decide) (fun c11 => ?_) (fun c11 => ?_)
          · replace r9 := ie c11 r9
            refine lv_bipush (v := 6) hx hb dX3_grade_59 (by decide) ?_
            refine lv_iload_n hx hb dX3_grade_61 rfl (lv_at hl 2 rfl) ?_
            refine lv_iadd hx hb dX3_grade_62 ?_
            obtain ⟨g12, hg12⟩ : ∃ g, g = ((6 : Int32) + a2) := ⟨_, rfl⟩
            rw [← hg12] at ⊢ r9
            exact J9 _ _ _ ls ⟨(Option.some.inj r9).symm, hX, hS, lv_sub hl [0, 3] rfl⟩
          · replace r9 := it c11 r9
            refine lv_iload_n hx hb dX3_grade_55 rfl (lv_at hl 2 rfl) ?_
            refine lv_goto (tgt := 63) hx hb dX3_grade_56 (by decide) ?_
            exact J9 _ _ _ ls ⟨(Option.some.inj r9).symm, hX, hS, lv_sub hl [0, 3] rfl⟩
      · refine lv_if_ne (tgt := 35) hx hb dX3_grade_21 (by decide) (fun c5 => ?_) (fun c5 => ?_)
        · replace r3 := ie c5 r3
          refine lv_aload_n hx hb dX3_grade_35 rfl (lv_at hl 0 rfl) ?_
          refine lv_iload_n hx hb dX3_grade_36 rfl (lv_at hl 2 rfl) ?_
          refine m_cvi (As := [.int a2]) (rest := []) C hX hS hl.1 (cm_isGuide l G hG S a2 rfl) (cwV 1 hts (lw_V q2104 q2106 qs63 q109 q2107) rfl rfl rfl (by decide +kernel) ⟨Nat.le_of_ble_eq_true rfl, Nat.le_of_ble_eq_true rfl⟩) rfl rfl (Nat.le_of_ble_eq_true rfl) dX3_grade_37 (fun H locs hX hS => ?_)
          refine lv_if_ne (tgt := 47) hx hb dX3_grade_40 (by decide) (fun c6 => ?_) (fun c6 => ?_)
          · replace r3 := ie c6 r3
            exact J3 _ _ _ ls ⟨(Option.some.inj r3).symm, hX, hS, hl⟩
          · replace r3 := it c6 r3
            refine lv_ldc2 hx hb hown (hts _ q2354) dX3_grade_43 ?_
            replace r3 := Option.some.inj r3
            subst r3
            replace hr := sk_r hr
            exact m_rlw (C := C) hret hlk hX hS (Option.some.inj hr) dX3_grade_46
        · replace r3 := it c5 r3
          refine lv_aload_n hx hb dX3_grade_24 rfl (lv_at hl 0 rfl) ?_
          refine lv_iload_n hx hb dX3_grade_25 rfl (lv_at hl 2 rfl) ?_
          refine m_cvi (As := [.int a2]) (rest := []) C hX hS hl.1 (cm_isRoute l G hG S a2 rfl) (cwV 1 hts (lw_V q2003 q2005 qs52 q109 q2006) rfl rfl rfl (by decide +kernel) ⟨Nat.le_of_ble_eq_true rfl, Nat.le_of_ble_eq_true rfl⟩) rfl rfl (Nat.le_of_ble_eq_true rfl) dX3_grade_26 (fun H locs hX hS => ?_)
          refine lv_if_eq (tgt := 43) hx hb dX3_grade_29 (by decide) (fun c7 => ?_) (fun c7 => ?_)
          · replace r3 := it c7 r3
            refine lv_ldc2 hx hb hown (hts _ q2354) dX3_grade_43 ?_
            replace r3 := Option.some.inj r3
            subst r3
            replace hr := sk_r hr
            exact m_rlw (C := C) hret hlk hX hS (Option.some.inj hr) dX3_grade_46
          · replace r3 := ie c7 r3
            refine lv_goto (tgt := 47) hx hb dX3_grade_32 (by decide) ?_
            exact J3 _ _ _ ls ⟨(Option.some.inj r3).symm, hX, hS, hl⟩

def fm_over (S : mS) (a1 : Int32) (a2 : Int32) : Option (mS × Int64) :=
  (if (fm_in a1.toInt64 (0 : Int64) (((gI S 73) - (1 : Int32)).toInt64)) = 0 then
  some (S, (-1000000000000 : Int64))
  else
  (if (fm_in a2.toInt64 (0 : Int64) (1 : Int64)) = 0 then
  some (S, (-1000000000000 : Int64))
  else
  (aI S 74 a1).bind fun x3 =>
  (fm_findGrade S x3).bind fun x4 =>
  (aI x4 75 a1).bind fun x5 =>
  (fm_findGrade x4 ((6 : Int32) + x5)).bind fun x6 =>
  (aI x6 76 a1).bind fun x7 =>
  (fm_lowest x6 ((((x7.toInt64 * (gJ x4 82)) * (gJ x6 82)) - ((gJ x4 81) * (gJ x6 82))) - ((gJ x6 81) * (gJ x4 82))) ((gJ x4 82) * (gJ x6 82))).bind fun x8 =>
  (if a2 = 0 then
  some (x8, (gJ x8 81))
  else
  some (x8, (gJ x8 82)))))
set_option maxHeartbeats 4000000 in
set_option maxRecDepth 100000 in
theorem cm_over (l : Launch) (G : mGh) (hG : mOk G) (S : mS) (a1 : Int32) (a2 : Int32) {S' : mS} {r : Int64} (hr : fm_over S a1 a2 = some (S', r)) : Met l yX3_over (ws_ yX3_over cX3_over 7 (some .long)) ({ frames := 2, cells := 0, slots := 0, locals := 62 } : Room) (mPc G [.int a1, .int a2] S) (mQl G r S') 0 0 (zA G) := by
  refine m_met cX3_over (by decide) rfl hG (Nat.le_of_ble_eq_true rfl) (fun p e s m args below meth c C hret hlk ls hX hl => ?_)
  have hx := C.1.1
  have hb := C.1.2.1
  have hown := C.1.2.2.2.1
  have hts := C.1.2.2.2.2
  have hS : va_S (zA G) s.heap s.heap [] := va_S.rf
  have hl : lv_has ls 7 [(0, .ref (zh G)), (1, .int a1), (2, .int a2)] := hl
  unfold fm_over at hr
  refine lv_iload_n hx hb dX3_over_0 rfl (lv_at hl 1 rfl) ?_
  refine lv_i2l (v := a1.toInt64) hx hb dX3_over_1 rfl ?_
  refine lv_lconst (v := 0) hx hb dX3_over_2 (by decide) ?_
  refine lv_aload_n hx hb dX3_over_3 rfl (lv_at hl 0 rfl) ?_
  refine m_gi (k := 73) C q1771 rfl hX dX3_over_4 ?_
  refine lv_iconst (v := 1) hx hb dX3_over_7 (by decide) ?_
  refine lv_isub hx hb dX3_over_8 ?_
  refine lv_i2l (v := ((gI S 73) - (1 : Int32)).toInt64) hx hb dX3_over_9 rfl ?_
  refine m_csi (As := [.long a1.toInt64, .long (0 : Int64), .long (((gI S 73) - (1 : Int32)).toInt64)]) (rest := []) C hX hS hl.1 (cm_in l a1.toInt64 (0 : Int64) (((gI S 73) - (1 : Int32)).toInt64) rfl) (va_cwS 3 hts (lw_S q1974 q1975 q109 q1976) rfl rfl rfl (by decide +kernel) ⟨Nat.le_of_ble_eq_true rfl, Nat.le_of_ble_eq_true rfl⟩) rfl rfl (Nat.le_of_ble_eq_true rfl) dX3_over_10 (fun H locs hX hS => ?_)
  refine lv_if_eq (tgt := 26) hx hb dX3_over_13 (by decide) (fun c1 => ?_) (fun c1 => ?_)
  · replace hr := it c1 hr
    refine lv_ldc2 hx hb hown (hts _ q2354) dX3_over_26 ?_
    exact m_rlw (C := C) hret hlk hX hS (Option.some.inj hr) dX3_over_29
  · replace hr := ie c1 hr
    refine lv_iload_n hx hb dX3_over_16 rfl (lv_at hl 2 rfl) ?_
    refine lv_i2l (v := a2.toInt64) hx hb dX3_over_17 rfl ?_
    refine lv_lconst (v := 0) hx hb dX3_over_18 (by decide) ?_
    refine lv_lconst (v := 1) hx hb dX3_over_19 (by decide) ?_
    refine m_csi (As := [.long a2.toInt64, .long (0 : Int64), .long (1 : Int64)]) (rest := []) C hX hS hl.1 (cm_in l a2.toInt64 (0 : Int64) (1 : Int64) rfl) (va_cwS 3 hts (lw_S q1974 q1975 q109 q1976) rfl rfl rfl (by decide +kernel) ⟨Nat.le_of_ble_eq_true rfl, Nat.le_of_ble_eq_true rfl⟩) rfl rfl (Nat.le_of_ble_eq_true rfl) dX3_over_20 (fun H locs hX hS => ?_)
    refine lv_if_ne (tgt := 30) hx hb dX3_over_23 (by decide) (fun c2 => ?_) (fun c2 => ?_)
    · replace hr := ie c2 hr
      refine lv_aload_n hx hb dX3_over_30 rfl (lv_at hl 0 rfl) ?_
      refine lv_aload_n hx hb dX3_over_31 rfl (lv_at hl 0 rfl) ?_
      refine m_ga (k := 74) (d := 0) C q1772 rfl (by decide) hX dX3_over_32 ?_
      refine lv_iload_n hx hb dX3_over_35 rfl (lv_at hl 1 rfl) ?_
      obtain ⟨x3, e3, hr⟩ := ob hr
      refine m_ia (k := 74) C rfl hX e3 dX3_over_36 ?_
      obtain ⟨x4, e4, hr⟩ := ob hr
      refine m_cvv (As := [.int x3]) (rest := []) C hX hS hl.1 (cm_findGrade l G hG S x3 e4) (cwV 1 hts (lw_V q2360 q2362 qs98 q109 q2363) rfl rfl rfl (by decide +kernel) ⟨Nat.le_of_ble_eq_true rfl, Nat.le_of_ble_eq_true rfl⟩) rfl rfl (Nat.le_of_ble_eq_true rfl) dX3_over_37 (fun H locs hX hS => ?_)
      refine lv_aload_n hx hb dX3_over_40 rfl (lv_at hl 0 rfl) ?_
      refine m_gj (k := 81) C q1779 rfl hX dX3_over_41 ?_
      refine lv_lstore_n (lv' := [(3, .long (gJ x4 81)), (0, .ref (zh G)), (1, .int a1), (2, .int a2)]) hx hb dX3_over_44 rfl hl (by decide) rfl (fun ls hl => ?_)
      refine lv_aload_n hx hb dX3_over_45 rfl (lv_at hl 1 rfl) ?_
      refine m_gj (k := 82) C q1780 rfl hX dX3_over_46 ?_
      refine lv_lstore (lv' := [(5, .long (gJ x4 82)), (3, .long (gJ x4 81)), (0, .ref (zh G)), (1, .int a1), (2, .int a2)]) hx hb dX3_over_49 hl (by decide) rfl (fun ls hl => ?_)
      refine lv_aload_n hx hb dX3_over_51 rfl (lv_at hl 2 rfl) ?_
      refine lv_bipush (v := 6) hx hb dX3_over_52 (by decide) ?_
      refine lv_aload_n hx hb dX3_over_54 rfl (lv_at hl 2 rfl) ?_
      refine m_ga (k := 75) (d := 0) C q1773 rfl (by decide) hX dX3_over_55 ?_
      refine lv_iload_n hx hb dX3_over_58 rfl (lv_at hl 3 rfl) ?_
      obtain ⟨x5, e5, hr⟩ := ob hr
      refine m_ia (k := 75) C rfl hX e5 dX3_over_59 ?_
      refine lv_iadd hx hb dX3_over_60 ?_
      obtain ⟨x6, e6, hr⟩ := ob hr
      refine m_cvv (As := [.int ((6 : Int32) + x5)]) (rest := []) C hX hS hl.1 (cm_findGrade l G hG x4 ((6 : Int32) + x5) e6) (cwV 1 hts (lw_V q2360 q2362 qs98 q109 q2363) rfl rfl rfl (by decide +kernel) ⟨Nat.le_of_ble_eq_true rfl, Nat.le_of_ble_eq_true rfl⟩) rfl rfl (Nat.le_of_ble_eq_true rfl) dX3_over_61 (fun H locs hX hS => ?_)
      refine lv_aload_n hx hb dX3_over_64 rfl (lv_at hl 2 rfl) ?_
      refine lv_aload_n hx hb dX3_over_65 rfl (lv_at hl 2 rfl) ?_
      refine m_ga (k := 76) (d := 0) C q1774 rfl (by decide) hX dX3_over_66 ?_
      refine lv_iload_n hx hb dX3_over_69 rfl (lv_at hl 3 rfl) ?_
      obtain ⟨x7, e7, hr⟩ := ob hr
      refine m_ia (k := 76) C rfl hX e7 dX3_over_70 ?_
      refine lv_i2l (v := x7.toInt64) hx hb dX3_over_71 rfl ?_
      refine lv_lload hx hb dX3_over_72 (lv_at hl 0 rfl) ?_
      refine lv_lmul hx hb dX3_over_74 ?_
      refine lv_aload_n hx hb dX3_over_75 rfl (lv_at hl 2 rfl) ?_
      refine m_gj (k := 82) C q1780 rfl hX dX3_over_76 ?_
      refine lv_lmul hx hb dX3_over_79 ?_
      refine lv_lload_n hx hb dX3_over_80 rfl (lv_at hl 1 rfl) ?_
      refine lv_aload_n hx hb dX3_over_81 rfl (lv_at hl 2 rfl) ?_
      refine m_gj (k := 82) C q1780 rfl hX dX3_over_82 ?_
      refine lv_lmul hx hb dX3_over_85 ?_
      refine lv_lsub hx hb dX3_over_86 ?_
      refine lv_aload_n hx hb dX3_over_87 rfl (lv_at hl 2 rfl) ?_
      refine m_gj (k := 81) C q1779 rfl hX dX3_over_88 ?_
      refine lv_lload hx hb dX3_over_91 (lv_at hl 0 rfl) ?_
      refine lv_lmul hx hb dX3_over_93 ?_
      refine lv_lsub hx hb dX3_over_94 ?_
      refine lv_lload hx hb dX3_over_95 (lv_at hl 0 rfl) ?_
      refine lv_aload_n hx hb dX3_over_97 rfl (lv_at hl 2 rfl) ?_
      refine m_gj (k := 82) C q1780 rfl hX dX3_over_98 ?_
      refine lv_lmul hx hb dX3_over_101 ?_
      obtain ⟨x8, e8, hr⟩ := ob hr
      refine m_cvv (As := [.long ((((x7.toInt64 * (gJ x4 82)) * (gJ x6 82)) - ((gJ x4 81) * (gJ x6 82))) - ((gJ x6 81) * (gJ x4 82))), .long ((gJ x4 82) * (gJ x6 82))]) (rest := []) C hX hS hl.1 (cm_lowest l G hG x6 ((((x7.toInt64 * (gJ x4 82)) * (gJ x6 82)) - ((gJ x4 81) * (gJ x6 82))) - ((gJ x6 81) * (gJ x4 82))) ((gJ x4 82) * (gJ x6 82)) e8) (cwV 2 hts (lw_V q2372 q2374 qs101 q109 q2375) rfl rfl rfl (by decide +kernel) ⟨Nat.le_of_ble_eq_true rfl, Nat.le_of_ble_eq_true rfl⟩) rfl rfl (Nat.le_of_ble_eq_true rfl) dX3_over_102 (fun H locs hX hS => ?_)
      refine lv_iload_n hx hb dX3_over_105 rfl (lv_at hl 4 rfl) ?_
      refine lv_if_ne (tgt := 116) hx hb dX3_over_106 (by decide) (fun c9 => ?_) (fun c9 => ?_)
      · replace hr := ie c9 hr
        refine lv_aload_n hx hb dX3_over_116 rfl (lv_at hl 2 rfl) ?_
        refine m_gj (k := 82) C q1780 rfl hX dX3_over_117 ?_
        exact m_rlw (C := C) hret hlk hX hS (Option.some.inj hr) dX3_over_120
      · replace hr := it c9 hr
        refine lv_aload_n hx hb dX3_over_109 rfl (lv_at hl 2 rfl) ?_
        refine m_gj (k := 81) C q1779 rfl hX dX3_over_110 ?_
        refine lv_goto (tgt := 120) hx hb dX3_over_113 (by decide) ?_
        exact m_rlw (C := C) hret hlk hX hS (Option.some.inj hr) dX3_over_120
    · replace hr := it c2 hr
      refine lv_ldc2 hx hb hown (hts _ q2354) dX3_over_26 ?_
      exact m_rlw (C := C) hret hlk hX hS (Option.some.inj hr) dX3_over_29
