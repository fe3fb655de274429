/-! M's methods, printed by tool/genm.py -/
def fm_pieces_l8 (x1 : mS) (t2 : Int32 × Int32) : Option ((Int32 × Int32) ⊕ (Int32)) :=
  (if (14 : Int32) ≤ t2.2 then
  some (.inr t2.1)
  else
  (aI x1 77 t2.2).bind fun x6 =>
  (((if x6 = t2.2 then
  some (1 : Int32)
  else
  some (0 : Int32)) : Option (Int32))).bind (fun x7 =>
  some (.inl ((t2.1 + x7), (t2.2 + (1 : Int32))))))
def fm_pieces (S : mS) : Option (mS × Int32) :=
  (fm_findLots S).bind fun x1 =>
  (loopO (fm_pieces_l8 x1) 1000000 ((0 : Int32), (0 : Int32))).bind (fun z4 =>
  some (x1, z4))
set_option maxHeartbeats 4000000 in
set_option maxRecDepth 100000 in
theorem cm_pieces (l : Launch) (G : mGh) (hG : mOk G) (S : mS)  {S' : mS} {r : Int32} (hr : fm_pieces S = some (S', r)) : Met l yX3_pieces (ws_ yX3_pieces cX3_pieces 3 (some .int)) ({ frames := 1, cells := 0, slots := 0, locals := 25 } : Room) (mPc G [] S) (mQi G r S') 0 0 (zA G) := by
  refine m_met cX3_pieces (by decide) rfl hG (Nat.le_of_ble_eq_true rfl) (fun p e s m args below meth c C hret hlk ls hX hl => ?_)
  have hx := C.1.1
  have hb := C.1.2.1
  have hown := C.1.2.2.2.1
  have hts := C.1.2.2.2.2
  have hS : va_S (zA G) s.heap s.heap [] := va_S.rf
  have hl : lv_has ls 3 [(0, .ref (zh G))] := hl
  unfold fm_pieces at hr
  refine lv_aload_n hx hb dX3_pieces_0 rfl (lv_at hl 0 rfl) ?_
  obtain ⟨x1, e1, hr⟩ := ob hr
  refine m_cvv (As := []) (rest := []) C hX hS hl.1 (cm_findLots l G hG S  e1) (cwV 0 hts (lw_V q2355 q2357 qs97 q109 q2358) rfl rfl rfl (by decide +kernel) ⟨Nat.le_of_ble_eq_true rfl, Nat.le_of_ble_eq_true rfl⟩) rfl rfl (Nat.le_of_ble_eq_true rfl) dX3_pieces_1 (fun H locs hX hS => ?_)
  refine lv_iconst (v := 0) hx hb dX3_pieces_4 (by decide) ?_
  refine lv_istore_n (lv' := [(1, .int (0 : Int32)), (0, .ref (zh G))]) hx hb dX3_pieces_5 rfl hl (by decide) rfl (fun ls hl => ?_)
  refine lv_iconst (v := 0) hx hb dX3_pieces_6 (by decide) ?_
  refine lv_istore_n (lv' := [(2, .int (0 : Int32)), (1, .int (0 : Int32)), (0, .ref (zh G))]) hx hb dX3_pieces_7 rfl hl (by decide) rfl (fun ls hl => ?_)
  obtain ⟨z4, e4, hr⟩ := ob hr
  refine m_join (I := fun (_ : Unit) H locs ls => mX G x1 H ∧ va_S (zA G) s.heap H locs ∧ lv_has ls 3 [(1, .int z4)]) 38 (fun _ => []) (fun _ H locs ls hi => ?_) (fun J2_38 => ?_)
  · obtain ⟨hX, hS, hl⟩ := hi
    refine lv_iload_n hx hb dX3_pieces_38 rfl (lv_at hl 0 rfl) ?_
    exact m_riw (C := C) hret hlk hX hS (Option.some.inj hr) dX3_pieces_39
  refine m_loop e4 (fun (t2 : Int32 × Int32) H locs ls => mX G x1 H ∧ va_S (zA G) s.heap H locs ∧ lv_has ls 3 [(0, .ref (zh G)), (1, .int t2.1), (2, .int t2.2)]) 8 ⟨hX, hS, lv_sub hl [2, 1, 0] rfl⟩ (fun t2 y2 b2 w2 k2 H locs ls hi => ?_)
  obtain ⟨hX, hS, hl⟩ := hi
  unfold fm_pieces_l8 at b2
  refine lv_iload_n hx hb dX3_pieces_8 rfl (lv_at hl 2 rfl) ?_
  refine lv_bipush (v := 14) hx hb dX3_pieces_9 (by decide) ?_
  refine lv_icmp_ge (tgt := 38) hx hb dX3_pieces_11 (by decide) (fun c5 => ?_) (fun c5 => ?_)
  · replace b2 := it c5 b2
    replace b2 := lx b2 w2
    subst b2
    exact J2_38 () _ _ ls ⟨hX, hS, lv_sub hl [1] rfl⟩
  · replace b2 := ie c5 b2
    refine lv_iload_n hx hb dX3_pieces_14 rfl (lv_at hl 1 rfl) ?_
    refine lv_aload_n hx hb dX3_pieces_15 rfl (lv_at hl 0 rfl) ?_
    refine m_ga (k := 77) (d := 0) C q1775 rfl (by decide) hX dX3_pieces_16 ?_
    refine lv_iload_n hx hb dX3_pieces_19 rfl (lv_at hl 2 rfl) ?_
    obtain ⟨x6, e6, b2⟩ := ob b2
    refine m_ia (k := 77) C rfl hX e6 dX3_pieces_20 ?_
    refine lv_iload_n hx hb dX3_pieces_21 rfl (lv_at hl 2 rfl) ?_
    obtain ⟨x7, r7, b2⟩ := ob b2
    refine m_join (I := fun (t8 : Int32) H locs ls => x7 = t8 ∧ mX G x1 H ∧ va_S (zA G) s.heap H locs ∧ lv_has ls 3 [(0, .ref (zh G)), (2, .int t2.2)]) 30 (fun t8 => [.int t8, .int t2.1]) (fun t8 H locs ls hi => ?_) (fun J7 => ?_)
    · obtain ⟨rfl, hX, hS, hl⟩ := hi
      refine lv_iadd hx hb dX3_pieces_30 ?_
      refine lv_istore_n (lv' := [(1, .int (t2.1 + x7)), (0, .ref (zh G)), (2, .int t2.2)]) hx hb dX3_pieces_31 rfl hl (by decide) rfl (fun ls hl => ?_)
      refine lv_iinc (v := (t2.2 + (1 : Int32))) (k := 2) (lv' := [(2, .int (t2.2 + (1 : Int32))), (1, .int (t2.1 + x7)), (0, .ref (zh G))]) hx hb dX3_pieces_32 hl rfl rfl (by decide) rfl (fun ls hl => ?_)
      refine lv_goto (tgt := 8) hx hb dX3_pieces_35 (by decide) ?_
      obtain ⟨g10, hg10⟩ : ∃ g, g = (t2.1 + x7) := ⟨_, rfl⟩
      rw [← hg10] at hl b2
      obtain ⟨g11, hg11⟩ : ∃ g, g = (t2.2 + (1 : Int32)) := ⟨_, rfl⟩
      rw [← hg11] at hl b2
      exact k2 _ (Option.some.inj b2).symm _ _ ls ⟨hX, hS, lv_sub hl [2, 1, 0] rfl⟩
    · refine lv_icmp_ne (tgt := 29) hx hb dX3_pieces_22 (by decide) (fun c9 => ?_) (fun c9 => ?_)
      · replace r7 := ie c9 r7
        refine lv_iconst (v := 0) hx hb dX3_pieces_29 (by decide) ?_
        exact J7 _ _ _ ls ⟨(Option.some.inj r7).symm, hX, hS, lv_sub hl [0, 2] rfl⟩
      · replace r7 := it c9 r7
        refine lv_iconst (v := 1) hx hb dX3_pieces_25 (by decide) ?_
        refine lv_goto (tgt := 30) hx hb dX3_pieces_26 (by decide) ?_
        exact J7 _ _ _ ls ⟨(Option.some.inj r7).symm, hX, hS, lv_sub hl [0, 2] rfl⟩

def fm_give (S : mS) (a1 : Int32) : Option (mS × Int32) :=
  (if (fm_in a1.toInt64 (1 : Int64) (100000 : Int64)) = 0 then
  some (S, (-1 : Int32))
  else
  (if ((gI S 26) + a1) ≤ (1000000000 : Int32) then
  (pI S 26 ((gI S 26) + a1)).bind fun x3 =>
  some (x3, (gI x3 26))
  else
  some (S, (-3 : Int32))))
set_option maxHeartbeats 4000000 in
set_option maxRecDepth 100000 in
theorem cm_give (l : Launch) (G : mGh) (hG : mOk G) (S : mS) (a1 : Int32) {S' : mS} {r : Int32} (hr : fm_give S a1 = some (S', r)) : Met l yX3_give (ws_ yX3_give cX3_give 2 (some .int)) ({ frames := 1, cells := 0, slots := 0, locals := 25 } : Room) (mPc G [.int a1] S) (mQi G r S') 0 0 (zA G) := by
  refine m_met cX3_give (by decide) rfl hG (Nat.le_of_ble_eq_true rfl) (fun p e s m args below meth c C hret hlk ls hX hl => ?_)
  have hx := C.1.1
  have hb := C.1.2.1
  have hown := C.1.2.2.2.1
  have hts := C.1.2.2.2.2
  have hS : va_S (zA G) s.heap s.heap [] := va_S.rf
  have hl : lv_has ls 2 [(0, .ref (zh G)), (1, .int a1)] := hl
  unfold fm_give at hr
  refine lv_iload_n hx hb dX3_give_0 rfl (lv_at hl 1 rfl) ?_
  refine lv_i2l (v := a1.toInt64) hx hb dX3_give_1 rfl ?_
  refine lv_lconst (v := 1) hx hb dX3_give_2 (by decide) ?_
  refine lv_ldc2 hx hb hown (hts _ q2388) dX3_give_3 ?_
  refine m_csi (As := [.long a1.toInt64, .long (1 : Int64), .long (100000 : Int64)]) (rest := []) C hX hS hl.1 (cm_in l a1.toInt64 (1 : Int64) (100000 : Int64) rfl) (va_cwS 3 hts (lw_S q1974 q1975 q109 q1976) rfl rfl rfl (by decide +kernel) ⟨Nat.le_of_ble_eq_true rfl, Nat.le_of_ble_eq_true rfl⟩) rfl rfl (Nat.le_of_ble_eq_true rfl) dX3_give_6 (fun H locs hX hS => ?_)
  refine lv_if_ne (tgt := 14) hx hb dX3_give_9 (by decide) (fun c1 => ?_) (fun c1 => ?_)
  · replace hr := ie c1 hr
    refine lv_aload_n hx hb dX3_give_14 rfl (lv_at hl 0 rfl) ?_
    refine m_gi (k := 26) C q1724 rfl hX dX3_give_15 ?_
    refine lv_iload_n hx hb dX3_give_18 rfl (lv_at hl 1 rfl) ?_
    refine lv_iadd hx hb dX3_give_19 ?_
    refine lv_ldcw hx hb hown (hts _ q2389) dX3_give_20 ?_
    refine lv_icmp_le (tgt := 29) hx hb dX3_give_23 (by decide) (fun c2 => ?_) (fun c2 => ?_)
    · replace hr := it c2 hr
      refine lv_aload_n hx hb dX3_give_29 rfl (lv_at hl 0 rfl) ?_
      refine lv_dup hx hb dX3_give_30 rfl ?_
      refine m_gi (k := 26) C q1724 rfl hX dX3_give_31 ?_
      refine lv_iload_n hx hb dX3_give_34 rfl (lv_at hl 1 rfl) ?_
      refine lv_iadd hx hb dX3_give_35 ?_
      obtain ⟨x3, e3, hr⟩ := ob hr
      refine m_pi (k := 26) C q1724 rfl hX hS e3 dX3_give_36 (fun H locs hX hS => ?_)
      refine lv_aload_n hx hb dX3_give_39 rfl (lv_at hl 0 rfl) ?_
      refine m_gi (k := 26) C q1724 rfl hX dX3_give_40 ?_
      exact m_riw (C := C) hret hlk hX hS (Option.some.inj hr) dX3_give_43
    · replace hr := ie c2 hr
      refine lv_bipush (v := -3) hx hb dX3_give_26 (by decide) ?_
      exact m_riw (C := C) hret hlk hX hS (Option.some.inj hr) dX3_give_28
  · replace hr := it c1 hr
    refine lv_iconst (v := -1) hx hb dX3_give_12 (by decide) ?_
    exact m_riw (C := C) hret hlk hX hS (Option.some.inj hr) dX3_give_13

def fm_share_l42 (a1 : Int32) (x3 : Int32) (t5 : mS × Int32) : Option ((mS × Int32) ⊕ (mS)) :=
  (if (gI t5.1 17) ≤ t5.2 then
  some (.inr t5.1)
  else
  (((if ((a1 >>> (t5.2 &&& 31)) &&& (1 : Int32)) = (1 : Int32) then
  (aI t5.1 23 t5.2).bind fun x12 =>
  (tI t5.1 23 t5.2 (x12 + x3)).bind fun x13 =>
  (pI x13 26 ((gI x13 26) - x3)).bind fun x14 =>
  some x14
  else
  some t5.1) : Option (mS))).bind (fun x9 =>
  some (.inl (x9, (t5.2 + (1 : Int32))))))
def fm_share (S : mS) (a1 : Int32) : Option (mS × Int32) :=
  (if (fm_in a1.toInt64 (1 : Int64) ((((1 : Int32) <<< ((gI S 17) &&& 31)) - (1 : Int32)).toInt64)) = 0 then
  some (S, (-1 : Int32))
  else
  (fm_bits a1).bind fun x2 =>
  (dI (gI S 26) x2).bind fun x3 =>
  (if x3 = 0 then
  some (S, (-2 : Int32))
  else
  (loopO (fm_share_l42 a1 x3) 1000000 (S, (0 : Int32))).bind (fun z7 =>
  some (z7, x3))))
set_option maxHeartbeats 4000000 in
set_option maxRecDepth 100000 in
theorem cm_share (l : Launch) (G : mGh) (hG : mOk G) (S : mS) (a1 : Int32) {S' : mS} {r : Int32} (hr : fm_share S a1 = some (S', r)) : Met l yX3_share (ws_ yX3_share cX3_share 5 (some .int)) ({ frames := 1, cells := 0, slots := 0, locals := 25 } : Room) (mPc G [.int a1] S) (mQi G r S') 0 0 (zA G) := by
  refine m_met cX3_share (by decide) rfl hG (Nat.le_of_ble_eq_true rfl) (fun p e s m args below meth c C hret hlk ls hX hl => ?_)
  have hx := C.1.1
  have hb := C.1.2.1
  have hown := C.1.2.2.2.1
  have hts := C.1.2.2.2.2
  have hS : va_S (zA G) s.heap s.heap [] := va_S.rf
  have hl : lv_has ls 5 [(0, .ref (zh G)), (1, .int a1)] := hl
  unfold fm_share at hr
  refine lv_iload_n hx hb dX3_share_0 rfl (lv_at hl 1 rfl) ?_
  refine lv_i2l (v := a1.toInt64) hx hb dX3_share_1 rfl ?_
  refine lv_lconst (v := 1) hx hb dX3_share_2 (by decide) ?_
  refine lv_iconst (v := 1) hx hb dX3_share_3 (by decide) ?_
  refine lv_aload_n hx hb dX3_share_4 rfl (lv_at hl 0 rfl) ?_
  refine m_gi (k := 17) C q1715 rfl hX dX3_share_5 ?_
  refine lv_ishl hx hb dX3_share_8 ?_
  refine lv_iconst (v := 1) hx hb dX3_share_9 (by decide) ?_
  refine lv_isub hx hb dX3_share_10 ?_
  refine lv_i2l (v := (((1 : Int32) <<< ((gI S 17) &&& 31)) - (1 : Int32)).toInt64) hx hb dX3_share_11 rfl ?_
  refine m_csi (As := [.long a1.toInt64, .long (1 : Int64), .long ((((1 : Int32) <<< ((gI S 17) &&& 31)) - (1 : Int32)).toInt64)]) (rest := []) C hX hS hl.1 (cm_in l a1.toInt64 (1 : Int64) ((((1 : Int32) <<< ((gI S 17) &&& 31)) - (1 : Int32)).toInt64) rfl) (va_cwS 3 hts (lw_S q1974 q1975 q109 q1976) rfl rfl rfl (by decide +kernel) ⟨Nat.le_of_ble_eq_true rfl, Nat.le_of_ble_eq_true rfl⟩) rfl rfl (Nat.le_of_ble_eq_true rfl) dX3_share_12 (fun H locs hX hS => ?_)
  refine lv_if_ne (tgt := 20) hx hb dX3_share_15 (by decide) (fun c1 => ?_) (fun c1 => ?_)
  · replace hr := ie c1 hr
    refine lv_iload_n hx hb dX3_share_20 rfl (lv_at hl 1 rfl) ?_
    obtain ⟨x2, e2, hr⟩ := ob hr
    refine m_csi (As := [.int a1]) (rest := []) C hX hS hl.1 (cm_bits l a1 e2) (va_cwS 1 hts (lw_S q2286 q2287 q109 q2288) rfl rfl rfl (by decide +kernel) ⟨Nat.le_of_ble_eq_true rfl, Nat.le_of_ble_eq_true rfl⟩) rfl rfl (Nat.le_of_ble_eq_true rfl) dX3_share_21 (fun H locs hX hS => ?_)
    refine lv_istore_n (lv' := [(2, .int x2), (0, .ref (zh G)), (1, .int a1)]) hx hb dX3_share_24 rfl hl (by decide) rfl (fun ls hl => ?_)
    refine lv_aload_n hx hb dX3_share_25 rfl (lv_at hl 1 rfl) ?_
    refine m_gi (k := 26) C q1724 rfl hX dX3_share_26 ?_
    refine lv_iload_n hx hb dX3_share_29 rfl (lv_at hl 0 rfl) ?_
    obtain ⟨x3, e3, hr⟩ := ob hr
    refine m_id C e3 dX3_share_30 ?_
    refine lv_istore_n (lv' := [(3, .int x3), (2, .int x2), (0, .ref (zh G)), (1, .int a1)]) hx hb dX3_share_31 rfl hl (by decide) rfl (fun ls hl => ?_)
    refine lv_iload_n hx hb dX3_share_32 rfl (lv_at hl 0 rfl) ?_
    refine lv_if_ne (tgt := 39) hx hb dX3_share_33 (by decide) (fun c4 => ?_) (fun c4 => ?_)
    · replace hr := ie c4 hr
      refine lv_iconst (v := 0) hx hb dX3_share_39 (by decide) ?_
      refine lv_istore (lv' := [(4, .int (0 : Int32)), (3, .int x3), (2, .int x2), (0, .ref (zh G)), (1, .int a1)]) hx hb dX3_share_40 hl (by decide) rfl (fun ls hl => ?_)
      obtain ⟨z7, e7, hr⟩ := ob hr
      refine m_join (I := fun (_ : Unit) H locs ls => mX G z7 H ∧ va_S (zA G) s.heap H locs ∧ lv_has ls 5 [(3, .int x3)]) 88 (fun _ => []) (fun _ H locs ls hi => ?_) (fun J5_88 => ?_)
      · obtain ⟨hX, hS, hl⟩ := hi
        refine lv_iload_n hx hb dX3_share_88 rfl (lv_at hl 0 rfl) ?_
        exact m_riw (C := C) hret hlk hX hS (Option.some.inj hr) dX3_share_89
      refine m_loop e7 (fun (t5 : mS × Int32) H locs ls => mX G t5.1 H ∧ va_S (zA G) s.heap H locs ∧ lv_has ls 5 [(0, .ref (zh G)), (1, .int a1), (3, .int x3), (4, .int t5.2)]) 42 ⟨hX, hS, lv_sub hl [3, 4, 1, 0] rfl⟩ (fun t5 y5 b5 w5 k5 H locs ls hi => ?_)
      obtain ⟨hX, hS, hl⟩ := hi
      unfold fm_share_l42 at b5
      refine lv_iload hx hb dX3_share_42 (lv_at hl 3 rfl) ?_
      refine lv_aload_n hx hb dX3_share_44 rfl (lv_at hl 0 rfl) ?_
      refine m_gi (k := 17) C q1715 rfl hX dX3_share_45 ?_
      refine lv_icmp_ge (tgt := 88) hx hb dX3_share_48 (by decide) (fun c8 => ?_) (fun c8 => ?_)
      · replace b5 := it c8 b5
        replace b5 := lx b5 w5
        subst b5
        exact J5_88 () _ _ ls ⟨hX, hS, lv_sub hl [2] rfl⟩
      · replace b5 := ie c8 b5
        refine lv_iload_n hx hb dX3_share_51 rfl (lv_at hl 1 rfl) ?_
        refine lv_iload hx hb dX3_share_52 (lv_at hl 3 rfl) ?_
        refine lv_ishr hx hb dX3_share_54 ?_
        refine lv_iconst (v := 1) hx hb dX3_share_55 (by decide) ?_
        refine lv_iand hx hb dX3_share_56 ?_
        refine lv_iconst (v := 1) hx hb dX3_share_57 (by decide) ?_
        obtain ⟨x9, r9, b5⟩ := ob b5
        refine m_join (I := fun (t10 : mS) H locs ls => x9 = t10 ∧ mX G t10 H ∧ va_S (zA G) s.heap H locs ∧ lv_has ls 5 [(0, .ref (zh G)), (1, .int a1), (3, .int x3), (4, .int t5.2)]) 82 (fun t10 => []) (fun t10 H locs ls hi => ?_) (fun J9 => ?_)
        · obtain ⟨rfl, hX, hS, hl⟩ := hi
          refine lv_iinc (v := (t5.2 + (1 : Int32))) (k := 3) (lv' := [(4, .int (t5.2 + (1 : Int32))), (0, .ref (zh G)), (1, .int a1), (3, .int x3)]) hx hb dX3_share_82 hl rfl rfl (by decide) rfl (fun ls hl => ?_)
          refine lv_goto (tgt := 42) hx hb dX3_share_85 (by decide) ?_
          obtain ⟨g15, hg15⟩ : ∃ g, g = (t5.2 + (1 : Int32)) := ⟨_, rfl⟩
          rw [← hg15] at hl b5
          exact k5 _ (Option.some.inj b5).symm _ _ ls ⟨hX, hS, lv_sub hl [1, 2, 3, 0] rfl⟩
        · refine lv_icmp_ne (tgt := 82) hx hb dX3_share_58 (by decide) (fun c11 => ?_) (fun c11 => ?_)
          · replace r9 := ie c11 r9
            exact J9 _ _ _ ls ⟨(Option.some.inj r9).symm, hX, hS, hl⟩
          · replace r9 := it c11 r9
            refine lv_aload_n hx hb dX3_share_61 rfl (lv_at hl 0 rfl) ?_
            refine m_ga (k := 23) (d := 0) C q1721 rfl (by decide) hX dX3_share_62 ?_
            refine lv_iload hx hb dX3_share_65 (lv_at hl 3 rfl) ?_
            refine lv_dup2_11 hx hb dX3_share_67 rfl rfl ?_
            obtain ⟨x12, e12, r9⟩ := ob r9
            refine m_ia (k := 23) C rfl hX e12 dX3_share_68 ?_
            refine lv_iload_n hx hb dX3_share_69 rfl (lv_at hl 2 rfl) ?_
            refine lv_iadd hx hb dX3_share_70 ?_
            obtain ⟨x13, e13, r9⟩ := ob r9
            refine m_is (k := 23) C rfl hX hS e13 dX3_share_71 (fun H locs hX hS => ?_)
            refine lv_aload_n hx hb dX3_share_72 rfl (lv_at hl 0 rfl) ?_
            refine lv_dup hx hb dX3_share_73 rfl ?_
            refine m_gi (k := 26) C q1724 rfl hX dX3_share_74 ?_
            refine lv_iload_n hx hb dX3_share_77 rfl (lv_at hl 2 rfl) ?_
            refine lv_isub hx hb dX3_share_78 ?_
            obtain ⟨x14, e14, r9⟩ := ob r9
            refine m_pi (k := 26) C q1724 rfl hX hS e14 dX3_share_79 (fun H locs hX hS => ?_)
            exact J9 _ _ _ ls ⟨(Option.some.inj r9).symm, hX, hS, hl⟩
    · replace hr := it c4 hr
      refine lv_bipush (v := -2) hx hb dX3_share_36 (by decide) ?_
      exact m_riw (C := C) hret hlk hX hS (Option.some.inj hr) dX3_share_38
  · replace hr := it c1 hr
    refine lv_iconst (v := -1) hx hb dX3_share_18 (by decide) ?_
    exact m_riw (C := C) hret hlk hX hS (Option.some.inj hr) dX3_share_19

def fm_image_l26  (t4 : mS × Int32) : Option ((mS × Int32) ⊕ (mS)) :=
  (if (8 : Int32) ≤ t4.2 then
  some (.inr t4.1)
  else
  (aI t4.1 24 t4.2).bind fun x8 =>
  (tI t4.1 84 t4.2 x8).bind fun x9 =>
  (aI x9 21 t4.2).bind fun x10 =>
  (tZ x9 85 t4.2 x10).bind fun x11 =>
  (aI x11 22 t4.2).bind fun x12 =>
  (tI x11 86 t4.2 x12).bind fun x13 =>
  (aI x13 23 t4.2).bind fun x14 =>
  (tI x13 87 t4.2 x14).bind fun x15 =>
  some (.inl (x15, (t4.2 + (1 : Int32)))))
def fm_image (S : mS) : Option (mS × Int32) :=
  (pI S 83 (gI S 17)).bind fun x1 =>
  (pI x1 88 (gI x1 25)).bind fun x2 =>
  (pI x2 89 (gI x2 26)).bind fun x3 =>
  (loopO fm_image_l26 1000000 (x3, (0 : Int32))).bind (fun z6 =>
  some (z6, (1 : Int32)))
set_option maxHeartbeats 4000000 in
set_option maxRecDepth 100000 in
theorem cm_image (l : Launch) (G : mGh) (hG : mOk G) (S : mS)  {S' : mS} {r : Int32} (hr : fm_image S = some (S', r)) : Met l yX3_image (ws_ yX3_image cX3_image 2 (some .int)) ({ frames := 0, cells := 0, slots := 0, locals := 0 } : Room) (mPc G [] S) (mQi G r S') 0 0 (zA G) := by
  refine m_met cX3_image (by decide) rfl hG (Nat.le_of_ble_eq_true rfl) (fun p e s m args below meth c C hret hlk ls hX hl => ?_)
  have hx := C.1.1
  have hb := C.1.2.1
  have hown := C.1.2.2.2.1
  have hts := C.1.2.2.2.2
  have hS : va_S (zA G) s.heap s.heap [] := va_S.rf
  have hl : lv_has ls 2 [(0, .ref (zh G))] := hl
  unfold fm_image at hr
  refine lv_aload_n hx hb dX3_image_0 rfl (lv_at hl 0 rfl) ?_
  refine lv_aload_n hx hb dX3_image_1 rfl (lv_at hl 0 rfl) ?_
  refine m_gi (k := 17) C q1715 rfl hX dX3_image_2 ?_
  obtain ⟨x1, e1, hr⟩ := ob hr
  refine m_pi (k := 83) C q1781 rfl hX hS e1 dX3_image_5 (fun H locs hX hS => ?_)
  refine lv_aload_n hx hb dX3_image_8 rfl (lv_at hl 0 rfl) ?_
  refine lv_aload_n hx hb dX3_image_9 rfl (lv_at hl 0 rfl) ?_
  refine m_gi (k := 25) C q1723 rfl hX dX3_image_10 ?_
  obtain ⟨x2, e2, hr⟩ := ob hr
  refine m_pi (k := 88) C q1786 rfl hX hS e2 dX3_image_13 (fun H locs hX hS => ?_)
  refine lv_aload_n hx hb dX3_image_16 rfl (lv_at hl 0 rfl) ?_
  refine lv_aload_n hx hb dX3_image_17 rfl (lv_at hl 0 rfl) ?_
  refine m_gi (k := 26) C q1724 rfl hX dX3_image_18 ?_
  obtain ⟨x3, e3, hr⟩ := ob hr
  refine m_pi (k := 89) C q1787 rfl hX hS e3 dX3_image_21 (fun H locs hX hS => ?_)
  refine lv_iconst (v := 0) hx hb dX3_image_24 (by decide) ?_
  refine lv_istore_n (lv' := [(1, .int (0 : Int32)), (0, .ref (zh G))]) hx hb dX3_image_25 rfl hl (by decide) rfl (fun ls hl => ?_)
  obtain ⟨z6, e6, hr⟩ := ob hr
  refine m_join (I := fun (_ : Unit) H locs ls => mX G z6 H ∧ va_S (zA G) s.heap H locs ∧ lv_has ls 2 []) 86 (fun _ => []) (fun _ H locs ls hi => ?_) (fun J4_86 => ?_)
  · obtain ⟨hX, hS, hl⟩ := hi
    refine lv_iconst (v := 1) hx hb dX3_image_86 (by decide) ?_
    exact m_riw (C := C) hret hlk hX hS (Option.some.inj hr) dX3_image_87
  refine m_loop e6 (fun (t4 : mS × Int32) H locs ls => mX G t4.1 H ∧ va_S (zA G) s.heap H locs ∧ lv_has ls 2 [(0, .ref (zh G)), (1, .int t4.2)]) 26 ⟨hX, hS, lv_sub hl [1, 0] rfl⟩ (fun t4 y4 b4 w4 k4 H locs ls hi => ?_)
  obtain ⟨hX, hS, hl⟩ := hi
  unfold fm_image_l26 at b4
  refine lv_iload_n hx hb dX3_image_26 rfl (lv_at hl 1 rfl) ?_
  refine lv_bipush (v := 8) hx hb dX3_image_27 (by decide) ?_
  refine lv_icmp_ge (tgt := 86) hx hb dX3_image_29 (by decide) (fun c7 => ?_) (fun c7 => ?_)
  · replace b4 := it c7 b4
    replace b4 := lx b4 w4
    subst b4
    exact J4_86 () _ _ ls ⟨hX, hS, lv_sub hl [] rfl⟩
  · replace b4 := ie c7 b4
    refine lv_aload_n hx hb dX3_image_32 rfl (lv_at hl 0 rfl) ?_
    refine m_ga (k := 84) (d := 0) C q1782 rfl (by decide) hX dX3_image_33 ?_
    refine lv_iload_n hx hb dX3_image_36 rfl (lv_at hl 1 rfl) ?_
    refine lv_aload_n hx hb dX3_image_37 rfl (lv_at hl 0 rfl) ?_
    refine m_ga (k := 24) (d := 0) C q1722 rfl (by decide) hX dX3_image_38 ?_
    refine lv_iload_n hx hb dX3_image_41 rfl (lv_at hl 1 rfl) ?_
    obtain ⟨x8, e8, b4⟩ := ob b4
    refine m_ia (k := 24) C rfl hX e8 dX3_image_42 ?_
    obtain ⟨x9, e9, b4⟩ := ob b4
    refine m_is (k := 84) C rfl hX hS e9 dX3_image_43 (fun H locs hX hS => ?_)
    refine lv_aload_n hx hb dX3_image_44 rfl (lv_at hl 0 rfl) ?_
    refine m_ga (k := 85) (d := 1) C q1783 rfl (by decide) hX dX3_image_45 ?_
    refine lv_iload_n hx hb dX3_image_48 rfl (lv_at hl 1 rfl) ?_
    refine lv_aload_n hx hb dX3_image_49 rfl (lv_at hl 0 rfl) ?_
    refine m_ga (k := 21) (d := 1) C q1719 rfl (by decide) hX dX3_image_50 ?_
    refine lv_iload_n hx hb dX3_image_53 rfl (lv_at hl 1 rfl) ?_
    obtain ⟨x10, e10, b4⟩ := ob b4
    refine m_za (k := 21) C rfl hX e10 dX3_image_54 ?_
    obtain ⟨x11, e11, b4⟩ := ob b4
    refine m_zs (k := 85) C rfl hX hS e11 dX3_image_55 (fun H locs hX hS => ?_)
    refine lv_aload_n hx hb dX3_image_56 rfl (lv_at hl 0 rfl) ?_
    refine m_ga (k := 86) (d := 0) C q1784 rfl (by decide) hX dX3_image_57 ?_
    refine lv_iload_n hx hb dX3_image_60 rfl (lv_at hl 1 rfl) ?_
    refine lv_aload_n hx hb dX3_image_61 rfl (lv_at hl 0 rfl) ?_
    refine m_ga (k := 22) (d := 0) C q1720 rfl (by decide) hX dX3_image_62 ?_
    refine lv_iload_n hx hb dX3_image_65 rfl (lv_at hl 1 rfl) ?_
    obtain ⟨x12, e12, b4⟩ := ob b4
    refine m_ia (k := 22) C rfl hX e12 dX3_image_66 ?_
    obtain ⟨x13, e13, b4⟩ := ob b4
    refine m_is (k := 86) C rfl hX hS e13 dX3_image_67 (fun H locs hX hS => ?_)
    refine lv_aload_n hx hb dX3_image_68 rfl (lv_at hl 0 rfl) ?_
    refine m_ga (k := 87) (d := 0) C q1785 rfl (by decide) hX dX3_image_69 ?_
    refine lv_iload_n hx hb dX3_image_72 rfl (lv_at hl 1 rfl) ?_
    refine lv_aload_n hx hb dX3_image_73 rfl (lv_at hl 0 rfl) ?_
    refine m_ga (k := 23) (d := 0) C q1721 rfl (by decide) hX dX3_image_74 ?_
    refine lv_iload_n hx hb dX3_image_77 rfl (lv_at hl 1 rfl) ?_
    obtain ⟨x14, e14, b4⟩ := ob b4
    refine m_ia (k := 23) C rfl hX e14 dX3_image_78 ?_
    obtain ⟨x15, e15, b4⟩ := ob b4
    refine m_is (k := 87) C rfl hX hS e15 dX3_image_79 (fun H locs hX hS => ?_)
    refine lv_iinc (v := (t4.2 + (1 : Int32))) (k := 1) (lv' := [(1, .int (t4.2 + (1 : Int32))), (0, .ref (zh G))]) hx hb dX3_image_80 hl rfl rfl (by decide) rfl (fun ls hl => ?_)
    refine lv_goto (tgt := 26) hx hb dX3_image_83 (by decide) ?_
    obtain ⟨g16, hg16⟩ : ∃ g, g = (t4.2 + (1 : Int32)) := ⟨_, rfl⟩
    rw [← hg16] at hl b4
    exact k4 _ (Option.some.inj b4).symm _ _ ls ⟨hX, hS, lv_sub hl [1, 0] rfl⟩

def fm_back_k113 (t4 : mS × Int32) (x21 : mS) (x8 : Int32) (x22 : Int32) : Option ((mS × Int32) ⊕ (mS)) :=
  (tI x21 22 t4.2 x22).bind fun x26 =>
  (((if x8 = 0 then
  some (0 : Int32)
  else
  (aI x26 87 t4.2).bind fun x30 =>
  some x30) : Option (Int32))).bind (fun x27 =>
  (tI x26 23 t4.2 x27).bind fun x31 =>
  some (.inl (x31, (t4.2 + (1 : Int32)))))
def fm_back_k93 (t4 : mS × Int32) (x15 : mS) (x8 : Int32) (x16 : Int32) : Option ((mS × Int32) ⊕ (mS)) :=
  (tZ x15 21 t4.2 x16).bind fun x21 =>
  (((if x8 = 0 then
  some (0 : Int32)
  else
  (aI x21 86 t4.2).bind fun x25 =>
  some x25) : Option (Int32))).bind (fun x22 => fm_back_k113 t4 x21 x8 x22)
def fm_back_k69 (t4 : mS × Int32) (x8 : Int32) (x11 : Int32) : Option ((mS × Int32) ⊕ (mS)) :=
  (tI t4.1 24 t4.2 x11).bind fun x15 =>
  (((if x8 = 0 then
  some (0 : Int32)
  else
  (aI x15 85 t4.2).bind fun x19 =>
  (if x19 = 0 then
  some (0 : Int32)
  else
  some (1 : Int32))) : Option (Int32))).bind (fun x16 => fm_back_k93 t4 x15 x8 x16)
def fm_back_k49 (t4 : mS × Int32) (x8 : Int32) : Option ((mS × Int32) ⊕ (mS)) :=
  (((if x8 = 0 then
  some t4.2
  else
  (aI t4.1 84 t4.2).bind fun x14 =>
  some x14) : Option (Int32))).bind (fun x11 => fm_back_k69 t4 x8 x11)
def fm_back_l30  (t4 : mS × Int32) : Option ((mS × Int32) ⊕ (mS)) :=
  (if (8 : Int32) ≤ t4.2 then
  some (.inr t4.1)
  else
  (((if (gI t4.1 83) ≤ t4.2 then
  some (0 : Int32)
  else
  some (1 : Int32)) : Option (Int32))).bind (fun x8 => fm_back_k49 t4 x8))
def fm_back (S : mS) : Option (mS × Int32) :=
  (if (gI S 83) = (-4 : Int32) then
  some (S, (-4 : Int32))
  else
  (pI S 25 (gI S 88)).bind fun x2 =>
  (pI x2 26 (gI x2 89)).bind fun x3 =>
  (loopO fm_back_l30 1000000 (x3, (0 : Int32))).bind (fun z6 =>
  some (z6, (gI z6 83))))
set_option maxHeartbeats 4000000 in
set_option maxRecDepth 100000 in
theorem cm_back (l : Launch) (G : mGh) (hG : mOk G) (S : mS)  {S' : mS} {r : Int32} (hr : fm_back S = some (S', r)) : Met l yX3_back (ws_ yX3_back cX3_back 3 (some .int)) ({ frames := 0, cells := 0, slots := 0, locals := 0 } : Room) (mPc G [] S) (mQi G r S') 0 0 (zA G) := by
  refine m_met cX3_back (by decide) rfl hG (Nat.le_of_ble_eq_true rfl) (fun p e s m args below meth c C hret hlk ls hX hl => ?_)
  have hx := C.1.1
  have hb := C.1.2.1
  have hown := C.1.2.2.2.1
  have hts := C.1.2.2.2.2
  have hS : va_S (zA G) s.heap s.heap [] := va_S.rf
  have hl : lv_has ls 3 [(0, .ref (zh G))] := hl
  unfold fm_back at hr
  refine lv_aload_n hx hb dX3_back_0 rfl (lv_at hl 0 rfl) ?_
  refine m_gi (k := 83) C q1781 rfl hX dX3_back_1 ?_
  refine lv_bipush (v := -4) hx hb dX3_back_4 (by decide) ?_
  refine lv_icmp_ne (tgt := 12) hx hb dX3_back_6 (by decide) (fun c1 => ?_) (fun c1 => ?_)
  · replace hr := ie c1 hr
    refine lv_aload_n hx hb dX3_back_12 rfl (lv_at hl 0 rfl) ?_
    refine lv_aload_n hx hb dX3_back_13 rfl (lv_at hl 0 rfl) ?_
    refine m_gi (k := 88) C q1786 rfl hX dX3_back_14 ?_
    obtain ⟨x2, e2, hr⟩ := ob hr
    refine m_pi (k := 25) C q1723 rfl hX hS e2 dX3_back_17 (fun H locs hX hS => ?_)
    refine lv_aload_n hx hb dX3_back_20 rfl (lv_at hl 0 rfl) ?_
    refine lv_aload_n hx hb dX3_back_21 rfl (lv_at hl 0 rfl) ?_
    refine m_gi (k := 89) C q1787 rfl hX dX3_back_22 ?_
    obtain ⟨x3, e3, hr⟩ := ob hr
    refine m_pi (k := 26) C q1724 rfl hX hS e3 dX3_back_25 (fun H locs hX hS => ?_)
    refine lv_iconst (v := 0) hx hb dX3_back_28 (by decide) ?_
    refine lv_istore_n (lv' := [(1, .int (0 : Int32)), (0, .ref (zh G))]) hx hb dX3_back_29 rfl hl (by decide) rfl (fun ls hl => ?_)
    obtain ⟨z6, e6, hr⟩ := ob hr
    refine m_join (I := fun (_ : Unit) H locs ls => mX G z6 H ∧ va_S (zA G) s.heap H locs ∧ lv_has ls 3 [(0, .ref (zh G))]) 140 (fun _ => []) (fun _ H locs ls hi => ?_) (fun J4_140 => ?_)
    · obtain ⟨hX, hS, hl⟩ := hi
      refine lv_aload_n hx hb dX3_back_140 rfl (lv_at hl 0 rfl) ?_
      refine m_gi (k := 83) C q1781 rfl hX dX3_back_141 ?_
      exact m_riw (C := C) hret hlk hX hS (Option.some.inj hr) dX3_back_144
    refine m_loop e6 (fun (t4 : mS × Int32) H locs ls => mX G t4.1 H ∧ va_S (zA G) s.heap H locs ∧ lv_has ls 3 [(0, .ref (zh G)), (1, .int t4.2)]) 30 ⟨hX, hS, lv_sub hl [1, 0] rfl⟩ (fun t4 y4 b4 w4 k4 H locs ls hi => ?_)
    obtain ⟨hX, hS, hl⟩ := hi
    unfold fm_back_l30 at b4
    refine lv_iload_n hx hb dX3_back_30 rfl (lv_at hl 1 rfl) ?_
    refine lv_bipush (v := 8) hx hb dX3_back_31 (by decide) ?_
    refine lv_icmp_ge (tgt := 140) hx hb dX3_back_33 (by decide) (fun c7 => ?_) (fun c7 => ?_)
    · replace b4 := it c7 b4
      replace b4 := lx b4 w4
      subst b4
      exact J4_140 () _ _ ls ⟨hX, hS, lv_sub hl [0] rfl⟩
    · replace b4 := ie c7 b4
      refine lv_iload_n hx hb dX3_back_36 rfl (lv_at hl 1 rfl) ?_
      refine lv_aload_n hx hb dX3_back_37 rfl (lv_at hl 0 rfl) ?_
      refine m_gi (k := 83) C q1781 rfl hX dX3_back_38 ?_
      obtain ⟨x8, r8, b4⟩ := ob b4
      refine m_join (I := fun (t9 : Int32) H locs ls => x8 = t9 ∧ mX G t4.1 H ∧ va_S (zA G) s.heap H locs ∧ lv_has ls 3 [(0, .ref (zh G)), (1, .int t4.2)]) 49 (fun t9 => [.int t9]) (fun t9 H locs ls hi => ?_) (fun J8 => ?_)
      · obtain ⟨rfl, hX, hS, hl⟩ := hi
        unfold fm_back_k49 at b4
        refine lv_istore_n (lv' := [(2, .int x8), (0, .ref (zh G)), (1, .int t4.2)]) hx hb dX3_back_49 rfl hl (by decide) rfl (fun ls hl => ?_)
        refine lv_aload_n hx hb dX3_back_50 rfl (lv_at hl 1 rfl) ?_
        refine m_ga (k := 24) (d := 0) C q1722 rfl (by decide) hX dX3_back_51 ?_
        refine lv_iload_n hx hb dX3_back_54 rfl (lv_at hl 2 rfl) ?_
        refine lv_iload_n hx hb dX3_back_55 rfl (lv_at hl 0 rfl) ?_
        obtain ⟨x11, r11, b4⟩ := ob b4
        refine m_join (I := fun (t12 : Int32) H locs ls => x11 = t12 ∧ mX G t4.1 H ∧ va_S (zA G) s.heap H locs ∧ lv_has ls 3 [(0, .ref (zh G)), (1, .int t4.2), (2, .int x8)]) 69 (fun t12 => [.int t12, .int t4.2, .ref (zad G 24)]) (fun t12 H locs ls hi => ?_) (fun J11 => ?_)
        · obtain ⟨rfl, hX, hS, hl⟩ := hi
          unfold fm_back_k69 at b4
          obtain ⟨x15, e15, b4⟩ := ob b4
          refine m_is (k := 24) C rfl hX hS e15 dX3_back_69 (fun H locs hX hS => ?_)
          refine lv_aload_n hx hb dX3_back_70 rfl (lv_at hl 0 rfl) ?_
          refine m_ga (k := 21) (d := 1) C q1719 rfl (by decide) hX dX3_back_71 ?_
          refine lv_iload_n hx hb dX3_back_74 rfl (lv_at hl 1 rfl) ?_
          refine lv_iload_n hx hb dX3_back_75 rfl (lv_at hl 2 rfl) ?_
          obtain ⟨x16, r16, b4⟩ := ob b4
          refine m_join (I := fun (t17 : Int32) H locs ls => x16 = t17 ∧ mX G x15 H ∧ va_S (zA G) s.heap H locs ∧ lv_has ls 3 [(0, .ref (zh G)), (1, .int t4.2), (2, .int x8)]) 93 (fun t17 => [.int t17, .int t4.2, .ref (zad G 21)]) (fun t17 H locs ls hi => ?_) (fun J16 => ?_)
          · obtain ⟨rfl, hX, hS, hl⟩ := hi
            unfold fm_back_k93 at b4
            obtain ⟨x21, e21, b4⟩ := ob b4
            refine m_zs (k := 21) C rfl hX hS e21 dX3_back_93 (fun H locs hX hS => ?_)
            refine lv_aload_n hx hb dX3_back_94 rfl (lv_at hl 0 rfl) ?_
            refine m_ga (k := 22) (d := 0) C q1720 rfl (by decide) hX dX3_back_95 ?_
            refine lv_iload_n hx hb dX3_back_98 rfl (lv_at hl 1 rfl) ?_
            refine lv_iload_n hx hb dX3_back_99 rfl (lv_at hl 2 rfl) ?_
            obtain ⟨x22, r22, b4⟩ := ob b4
            refine m_join (I := fun (t23 : Int32) H locs ls => x22 = t23 ∧ mX G x21 H ∧ va_S (zA G) s.heap H locs ∧ lv_has ls 3 [(0, .ref (zh G)), (1, .int t4.2), (2, .int x8)]) 113 (fun t23 => [.int t23, .int t4.2, .ref (zad G 22)]) (fun t23 H locs ls hi => ?_) (fun J22 => ?_)
            · obtain ⟨rfl, hX, hS, hl⟩ := hi
              unfold fm_back_k113 at b4
              obtain ⟨x26, e26, b4⟩ := ob b4
              refine m_is (k := 22) C rfl hX hS e26 dX3_back_113 (fun H locs hX hS => ?_)
              refine lv_aload_n hx hb dX3_back_114 rfl (lv_at hl 0 rfl) ?_
              refine m_ga (k := 23) (d := 0) C q1721 rfl (by decide) hX dX3_back_115 ?_
              refine lv_iload_n hx hb dX3_back_118 rfl (lv_at hl 1 rfl) ?_
              refine lv_iload_n hx hb dX3_back_119 rfl (lv_at hl 2 rfl) ?_
              obtain ⟨x27, r27, b4⟩ := ob b4
              refine m_join (I := fun (t28 : Int32) H locs ls => x27 = t28 ∧ mX G x26 H ∧ va_S (zA G) s.heap H locs ∧ lv_has ls 3 [(0, .ref (zh G)), (1, .int t4.2)]) 133 (fun t28 => [.int t28, .int t4.2, .ref (zad G 23)]) (fun t28 H locs ls hi => ?_) (fun J27 => ?_)
              · obtain ⟨rfl, hX, hS, hl⟩ := hi
                obtain ⟨x31, e31, b4⟩ := ob b4
                refine m_is (k := 23) C rfl hX hS e31 dX3_back_133 (fun H locs hX hS => ?_)
                refine lv_iinc (v := (t4.2 + (1 : Int32))) (k := 1) (lv' := [(1, .int (t4.2 + (1 : Int32))), (0, .ref (zh G))]) hx hb dX3_back_134 hl rfl rfl (by decide) rfl (fun ls hl => ?_)
                refine lv_goto (tgt := 30) hx hb dX3_back_137 (by decide) ?_
                obtain ⟨g32, hg32⟩ : ∃ g, g = (t4.2 + (1 : Int32)) := ⟨_, rfl⟩
                rw [← hg32] at hl b4
                exact k4 _ (Option.some.inj b4).symm _ _ ls ⟨hX, hS, lv_sub hl [1, 0] rfl⟩
              · refine lv_if_eq (tgt := 132) hx hb dX3_back_120 (by decide) (fun c29 => ?_) (fun c29 => ?_)
                · replace r27 := it c29 r27
                  refine lv_iconst (v := 0) hx hb dX3_back_132 (by decide) ?_
                  exact J27 _ _ _ ls ⟨(Option.some.inj r27).symm, hX, hS, lv_sub hl [0, 1] rfl⟩
                · replace r27 := ie c29 r27
                  refine lv_aload_n hx hb dX3_back_123 rfl (lv_at hl 0 rfl) ?_
                  refine m_ga (k := 87) (d := 0) C q1785 rfl (by decide) hX dX3_back_124 ?_
                  refine lv_iload_n hx hb dX3_back_127 rfl (lv_at hl 1 rfl) ?_
                  obtain ⟨x30, e30, r27⟩ := ob r27
                  refine m_ia (k := 87) C rfl hX e30 dX3_back_128 ?_
                  refine lv_goto (tgt := 133) hx hb dX3_back_129 (by decide) ?_
                  exact J27 _ _ _ ls ⟨(Option.some.inj r27).symm, hX, hS, lv_sub hl [0, 1] rfl⟩
            · refine lv_if_eq (tgt := 112) hx hb dX3_back_100 (by decide) (fun c24 => ?_) (fun c24 => ?_)
              · replace r22 := it c24 r22
                refine lv_iconst (v := 0) hx hb dX3_back_112 (by decide) ?_
                exact J22 _ _ _ ls ⟨(Option.some.inj r22).symm, hX, hS, hl⟩
              · replace r22 := ie c24 r22
                refine lv_aload_n hx hb dX3_back_103 rfl (lv_at hl 0 rfl) ?_
                refine m_ga (k := 86) (d := 0) C q1784 rfl (by decide) hX dX3_back_104 ?_
                refine lv_iload_n hx hb dX3_back_107 rfl (lv_at hl 1 rfl) ?_
                obtain ⟨x25, e25, r22⟩ := ob r22
                refine m_ia (k := 86) C rfl hX e25 dX3_back_108 ?_
                refine lv_goto (tgt := 113) hx hb dX3_back_109 (by decide) ?_
                exact J22 _ _ _ ls ⟨(Option.some.inj r22).symm, hX, hS, hl⟩
          · refine lv_if_eq (tgt := 92) hx hb dX3_back_76 (by decide) (fun c18 => ?_) (fun c18 => ?_)
            · replace r16 := it c18 r16
              refine lv_iconst (v := 0) hx hb dX3_back_92 (by decide) ?_
              exact J16 _ _ _ ls ⟨(Option.some.inj r16).symm, hX, hS, hl⟩
            · replace r16 := ie c18 r16
              refine lv_aload_n hx hb dX3_back_79 rfl (lv_at hl 0 rfl) ?_
              refine m_ga (k := 85) (d := 1) C q1783 rfl (by decide) hX dX3_back_80 ?_
              refine lv_iload_n hx hb dX3_back_83 rfl (lv_at hl 1 rfl) ?_
              obtain ⟨x19, e19, r16⟩ := ob r16
              refine m_za (k := 85) C rfl hX e19 dX3_back_84 ?_
              refine lv_if_eq (tgt := 92) hx hb dX3_back_85 (by decide) (fun c20 => ?_) (fun c20 => ?_)
              · replace r16 := it c20 r16
                refine lv_iconst (v := 0) hx hb dX3_back_92 (by decide) ?_
                exact J16 _ _ _ ls ⟨(Option.some.inj r16).symm, hX, hS, hl⟩
              · replace r16 := ie c20 r16
                refine lv_iconst (v := 1) hx hb dX3_back_88 (by decide) ?_
                refine lv_goto (tgt := 93) hx hb dX3_back_89 (by decide) ?_
                exact J16 _ _ _ ls ⟨(Option.some.inj r16).symm, hX, hS, hl⟩
        · refine lv_if_eq (tgt := 68) hx hb dX3_back_56 (by decide) (fun c13 => ?_) (fun c13 => ?_)
          · replace r11 := it c13 r11
            refine lv_iload_n hx hb dX3_back_68 rfl (lv_at hl 2 rfl) ?_
            exact J11 _ _ _ ls ⟨(Option.some.inj r11).symm, hX, hS, lv_sub hl [1, 2, 0] rfl⟩
          · replace r11 := ie c13 r11
            refine lv_aload_n hx hb dX3_back_59 rfl (lv_at hl 1 rfl) ?_
            refine m_ga (k := 84) (d := 0) C q1782 rfl (by decide) hX dX3_back_60 ?_
            refine lv_iload_n hx hb dX3_back_63 rfl (lv_at hl 2 rfl) ?_
            obtain ⟨x14, e14, r11⟩ := ob r11
            refine m_ia (k := 84) C rfl hX e14 dX3_back_64 ?_
            refine lv_goto (tgt := 69) hx hb dX3_back_65 (by decide) ?_
            exact J11 _ _ _ ls ⟨(Option.some.inj r11).symm, hX, hS, lv_sub hl [1, 2, 0] rfl⟩
      · refine lv_icmp_ge (tgt := 48) hx hb dX3_back_41 (by decide) (fun c10 => ?_) (fun c10 => ?_)
        · replace r8 := it c10 r8
          refine lv_iconst (v := 0) hx hb dX3_back_48 (by decide) ?_
          exact J8 _ _ _ ls ⟨(Option.some.inj r8).symm, hX, hS, hl⟩
        · replace r8 := ie c10 r8
          refine lv_iconst (v := 1) hx hb dX3_back_44 (by decide) ?_
          refine lv_goto (tgt := 49) hx hb dX3_back_45 (by decide) ?_
          exact J8 _ _ _ ls ⟨(Option.some.inj r8).symm, hX, hS, hl⟩
  · replace hr := it c1 hr
    refine lv_bipush (v := -4) hx hb dX3_back_9 (by decide) ?_
    exact m_riw (C := C) hret hlk hX hS (Option.some.inj hr) dX3_back_11

def fm_count_l52 (x14 : mS) (t15 : Int32 × Int32) : Option ((Int32 × Int32) ⊕ (Int32)) :=
  (if (gI x14 54) ≤ t15.2 then
  some (.inr t15.1)
  else
  (aI x14 61 t15.2).bind fun x19 =>
  (((if x19 = 0 then
  some (0 : Int32)
  else
  some (1 : Int32)) : Option (Int32))).bind (fun x20 =>
  some (.inl ((t15.1 + x20), (t15.2 + (1 : Int32))))))
def fm_count_k85 (a1 : Int32) (z3 : Int32) (x11 : mS × Int32) : Option ((mS × Int32)) :=
  if a1 = (0 : Int32) then
  some (x11.1, (gI x11.1 0))
  else if a1 = (1 : Int32) then
  some (x11.1, (gI x11.1 2))
  else if a1 = (2 : Int32) then
  some (x11.1, (gI x11.1 9))
  else if a1 = (3 : Int32) then
  some (x11.1, (gI x11.1 17))
  else if a1 = (4 : Int32) then
  some (x11.1, (gI x11.1 35))
  else if a1 = (5 : Int32) then
  some (x11.1, (gI x11.1 49))
  else if a1 = (6 : Int32) then
  some (x11.1, (gI x11.1 54))
  else if a1 = (7 : Int32) then
  some (x11.1, (gI x11.1 73))
  else if a1 = (8 : Int32) then
  some (x11.1, (gI x11.1 26))
  else if a1 = (9 : Int32) then
  some (x11.1, (gI x11.1 25))
  else if a1 = (10 : Int32) then
  some (x11.1, z3)
  else if a1 = (11 : Int32) then
  some (x11.1, x11.2)
  else if a1 = (12 : Int32) then
  some (x11.1, (gI x11.1 28))
  else 
  some (x11.1, (-1 : Int32))
def fm_count_k35 (S : mS) (a1 : Int32) (z3 : Int32) : Option ((mS × Int32)) :=
  (((if a1 = (11 : Int32) then
  (fm_goesTo S (95 : Int32)).bind fun x14 =>
  (loopO (fm_count_l52 x14) 1000000 ((0 : Int32), (0 : Int32))).bind (fun z17 =>
  some (x14, z17))
  else
  some (S, (0 : Int32))) : Option (mS × Int32))).bind (fun x11 => fm_count_k85 a1 z3 x11)
def fm_count_l4 (S : mS) (t1 : Int32 × Int32) : Option ((Int32 × Int32) ⊕ (Int32)) :=
  (if (gI S 17) ≤ t1.2 then
  some (.inr t1.1)
  else
  (aI S 21 t1.2).bind fun x5 =>
  (((if x5 = 0 then
  some (0 : Int32)
  else
  some (1 : Int32)) : Option (Int32))).bind (fun x6 =>
  some (.inl ((t1.1 + x6), (t1.2 + (1 : Int32))))))
def fm_count (S : mS) (a1 : Int32) : Option (mS × Int32) :=
  (loopO (fm_count_l4 S) 1000000 ((0 : Int32), (0 : Int32))).bind (fun z3 => fm_count_k35 S a1 z3)
set_option maxHeartbeats 4000000 in
set_option maxRecDepth 100000 in
theorem cm_count (l : Launch) (G : mGh) (hG : mOk G) (S : mS) (a1 : Int32) {S' : mS} {r : Int32} (hr : fm_count S a1 = some (S', r)) : Met l yX3_count (ws_ yX3_count cX3_count 5 (some .int)) ({ frames := 7, cells := 0, slots := 0, locals := 166 } : Room) (mPc G [.int a1] S) (mQi G r S') 0 0 (zA G) := by
  refine m_met cX3_count (by decide) rfl hG (Nat.le_of_ble_eq_true rfl) (fun p e s m args below meth c C hret hlk ls hX hl => ?_)
  have hx := C.1.1
  have hb := C.1.2.1
  have hown := C.1.2.2.2.1
  have hts := C.1.2.2.2.2
  have hS : va_S (zA G) s.heap s.heap [] := va_S.rf
  have hl : lv_has ls 5 [(0, .ref (zh G)), (1, .int a1)] := hl
  unfold fm_count at hr
  refine lv_iconst (v := 0) hx hb dX3_count_0 (by decide) ?_
  refine lv_istore_n (lv' := [(2, .int (0 : Int32)), (0, .ref (zh G)), (1, .int a1)]) hx hb dX3_count_1 rfl hl (by decide) rfl (fun ls hl => ?_)
  refine lv_iconst (v := 0) hx hb dX3_count_2 (by decide) ?_
  refine lv_istore_n (lv' := [(3, .int (0 : Int32)), (2, .int (0 : Int32)), (0, .ref (zh G)), (1, .int a1)]) hx hb dX3_count_3 rfl hl (by decide) rfl (fun ls hl => ?_)
  obtain ⟨z3, e3, hr⟩ := ob hr
  refine m_join (I := fun (_ : Unit) H locs ls => mX G S H ∧ va_S (zA G) s.heap H locs ∧ lv_has ls 5 [(0, .ref (zh G)), (1, .int a1), (2, .int z3)]) 35 (fun _ => []) (fun _ H locs ls hi => ?_) (fun J1_35 => ?_)
  · obtain ⟨hX, hS, hl⟩ := hi
    unfold fm_count_k35 at hr
    refine lv_iconst (v := 0) hx hb dX3_count_35 (by decide) ?_
    refine lv_istore_n (lv' := [(3, .int (0 : Int32)), (0, .ref (zh G)), (1, .int a1), (2, .int z3)]) hx hb dX3_count_36 rfl hl (by decide) rfl (fun ls hl => ?_)
    refine lv_iload_n hx hb dX3_count_37 rfl (lv_at hl 2 rfl) ?_
    refine lv_bipush (v := 11) hx hb dX3_count_38 (by decide) ?_
    obtain ⟨x11, r11, hr⟩ := ob hr
    refine m_join (I := fun (t12 : mS × Int32) H locs ls => x11 = t12 ∧ mX G t12.1 H ∧ va_S (zA G) s.heap H locs ∧ lv_has ls 5 [(0, .ref (zh G)), (1, .int a1), (2, .int z3), (3, .int t12.2)]) 85 (fun t12 => []) (fun t12 H locs ls hi => ?_) (fun J11 => ?_)
    · obtain ⟨rfl, hX, hS, hl⟩ := hi
      unfold fm_count_k85 at hr
      refine lv_iload_n hx hb dX3_count_85 rfl (lv_at hl 1 rfl) ?_
      by_cases c25 : a1 = (0 : Int32)
      · replace hr := it c25 hr
        refine lv_tableIn (off := 66) (tgt := 152) hx hb dX3_count_86 (by rw [c25]; decide) (by rw [c25]; decide) (by rw [c25]; rfl) (by decide) ?_
        refine lv_aload_n hx hb dX3_count_152 rfl (lv_at hl 0 rfl) ?_
        refine m_gi (k := 0) C q1698 rfl hX dX3_count_153 ?_
        exact m_riw (C := C) hret hlk hX hS (Option.some.inj hr) dX3_count_156
      replace hr := ie c25 hr
      by_cases c26 : a1 = (1 : Int32)
      · replace hr := it c26 hr
        refine lv_tableIn (off := 71) (tgt := 157) hx hb dX3_count_86 (by rw [c26]; decide) (by rw [c26]; decide) (by rw [c26]; rfl) (by decide) ?_
        refine lv_aload_n hx hb dX3_count_157 rfl (lv_at hl 0 rfl) ?_
        refine m_gi (k := 2) C q1700 rfl hX dX3_count_158 ?_
        exact m_riw (C := C) hret hlk hX hS (Option.some.inj hr) dX3_count_161
      replace hr := ie c26 hr
      by_cases c27 : a1 = (2 : Int32)
      · replace hr := it c27 hr
        refine lv_tableIn (off := 76) (tgt := 162) hx hb dX3_count_86 (by rw [c27]; decide) (by rw [c27]; decide) (by rw [c27]; rfl) (by decide) ?_
        refine lv_aload_n hx hb dX3_count_162 rfl (lv_at hl 0 rfl) ?_
        refine m_gi (k := 9) C q1707 rfl hX dX3_count_163 ?_
        exact m_riw (C := C) hret hlk hX hS (Option.some.inj hr) dX3_count_166
      replace hr := ie c27 hr
      by_cases c28 : a1 = (3 : Int32)
      · replace hr := it c28 hr
        refine lv_tableIn (off := 81) (tgt := 167) hx hb dX3_count_86 (by rw [c28]; decide) (by rw [c28]; decide) (by rw [c28]; rfl) (by decide) ?_
        refine lv_aload_n hx hb dX3_count_167 rfl (lv_at hl 0 rfl) ?_
        refine m_gi (k := 17) C q1715 rfl hX dX3_count_168 ?_
        exact m_riw (C := C) hret hlk hX hS (Option.some.inj hr) dX3_count_171
      replace hr := ie c28 hr
      by_cases c29 : a1 = (4 : Int32)
      · replace hr := it c29 hr
        refine lv_tableIn (off := 86) (tgt := 172) hx hb dX3_count_86 (by rw [c29]; decide) (by rw [c29]; decide) (by rw [c29]; rfl) (by decide) ?_
        refine lv_aload_n hx hb dX3_count_172 rfl (lv_at hl 0 rfl) ?_
        refine m_gi (k := 35) C q1733 rfl hX dX3_count_173 ?_
        exact m_riw (C := C) hret hlk hX hS (Option.some.inj hr) dX3_count_176
      replace hr := ie c29 hr
      by_cases c30 : a1 = (5 : Int32)
      · replace hr := it c30 hr
        refine lv_tableIn (off := 91) (tgt := 177) hx hb dX3_count_86 (by rw [c30]; decide) (by rw [c30]; decide) (by rw [c30]; rfl) (by decide) ?_
        refine lv_aload_n hx hb dX3_count_177 rfl (lv_at hl 0 rfl) ?_
        refine m_gi (k := 49) C q1747 rfl hX dX3_count_178 ?_
        exact m_riw (C := C) hret hlk hX hS (Option.some.inj hr) dX3_count_181
      replace hr := ie c30 hr
      by_cases c31 : a1 = (6 : Int32)
      · replace hr := it c31 hr
        refine lv_tableIn (off := 96) (tgt := 182) hx hb dX3_count_86 (by rw [c31]; decide) (by rw [c31]; decide) (by rw [c31]; rfl) (by decide) ?_
        refine lv_aload_n hx hb dX3_count_182 rfl (lv_at hl 0 rfl) ?_
        refine m_gi (k := 54) C q1752 rfl hX dX3_count_183 ?_
        exact m_riw (C := C) hret hlk hX hS (Option.some.inj hr) dX3_count_186
      replace hr := ie c31 hr
      by_cases c32 : a1 = (7 : Int32)
      · replace hr := it c32 hr
        refine lv_tableIn (off := 101) (tgt := 187) hx hb dX3_count_86 (by rw [c32]; decide) (by rw [c32]; decide) (by rw [c32]; rfl) (by decide) ?_
        refine lv_aload_n hx hb dX3_count_187 rfl (lv_at hl 0 rfl) ?_
        refine m_gi (k := 73) C q1771 rfl hX dX3_count_188 ?_
        exact m_riw (C := C) hret hlk hX hS (Option.some.inj hr) dX3_count_191
      replace hr := ie c32 hr
      by_cases c33 : a1 = (8 : Int32)
      · replace hr := it c33 hr
        refine lv_tableIn (off := 106) (tgt := 192) hx hb dX3_count_86 (by rw [c33]; decide) (by rw [c33]; decide) (by rw [c33]; rfl) (by decide) ?_
        refine lv_aload_n hx hb dX3_count_192 rfl (lv_at hl 0 rfl) ?_
        refine m_gi (k := 26) C q1724 rfl hX dX3_count_193 ?_
        exact m_riw (C := C) hret hlk hX hS (Option.some.inj hr) dX3_count_196
      replace hr := ie c33 hr
      by_cases c34 : a1 = (9 : Int32)
      · replace hr := it c34 hr
        refine lv_tableIn (off := 111) (tgt := 197) hx hb dX3_count_86 (by rw [c34]; decide) (by rw [c34]; decide) (by rw [c34]; rfl) (by decide) ?_
        refine lv_aload_n hx hb dX3_count_197 rfl (lv_at hl 0 rfl) ?_
        refine m_gi (k := 25) C q1723 rfl hX dX3_count_198 ?_
        exact m_riw (C := C) hret hlk hX hS (Option.some.inj hr) dX3_count_201
      replace hr := ie c34 hr
      by_cases c35 : a1 = (10 : Int32)
      · replace hr := it c35 hr
        refine lv_tableIn (off := 116) (tgt := 202) hx hb dX3_count_86 (by rw [c35]; decide) (by rw [c35]; decide) (by rw [c35]; rfl) (by decide) ?_
        refine lv_iload_n hx hb dX3_count_202 rfl (lv_at hl 2 rfl) ?_
        exact m_riw (C := C) hret hlk hX hS (Option.some.inj hr) dX3_count_203
      replace hr := ie c35 hr
      by_cases c36 : a1 = (11 : Int32)
      · replace hr := it c36 hr
        refine lv_tableIn (off := 118) (tgt := 204) hx hb dX3_count_86 (by rw [c36]; decide) (by rw [c36]; decide) (by rw [c36]; rfl) (by decide) ?_
        refine lv_iload_n hx hb dX3_count_204 rfl (lv_at hl 3 rfl) ?_
        exact m_riw (C := C) hret hlk hX hS (Option.some.inj hr) dX3_count_205
      replace hr := ie c36 hr
      by_cases c37 : a1 = (12 : Int32)
      · replace hr := it c37 hr
        refine lv_tableIn (off := 120) (tgt := 206) hx hb dX3_count_86 (by rw [c37]; decide) (by rw [c37]; decide) (by rw [c37]; rfl) (by decide) ?_
        refine lv_aload_n hx hb dX3_count_206 rfl (lv_at hl 0 rfl) ?_
        refine m_gi (k := 28) C q1726 rfl hX dX3_count_207 ?_
        exact m_riw (C := C) hret hlk hX hS (Option.some.inj hr) dX3_count_210
      replace hr := ie c37 hr
      refine lv_tableOut (tgt := 211) hx hb dX3_count_86 (tb_out (fun k h1 h2 => ?_)) (by decide) ?_
      · have h3 : k = 0 ∨ k = 1 ∨ k = 2 ∨ k = 3 ∨ k = 4 ∨ k = 5 ∨ k = 6 ∨ k = 7 ∨ k = 8 ∨ k = 9 ∨ k = 10 ∨ k = 11 ∨ k = 12 := by omega
        rcases h3 with rfl | rfl | rfl | rfl | rfl | rfl | rfl | rfl | rfl | rfl | rfl | rfl | rfl
        · exact c25
        · exact c26
        · exact c27
        · exact c28
        · exact c29
        · exact c30
        · exact c31
        · exact c32
        · exact c33
        · exact c34
        · exact c35
        · exact c36
        · exact c37
      · refine lv_iconst (v := -1) hx hb dX3_count_211 (by decide) ?_
        exact m_riw (C := C) hret hlk hX hS (Option.some.inj hr) dX3_count_212
    · refine lv_icmp_ne (tgt := 85) hx hb dX3_count_40 (by decide) (fun c13 => ?_) (fun c13 => ?_)
      · replace r11 := ie c13 r11
        exact J11 _ _ _ ls ⟨(Option.some.inj r11).symm, hX, hS, lv_sub hl [1, 2, 3, 0] rfl⟩
      · replace r11 := it c13 r11
        refine lv_aload_n hx hb dX3_count_43 rfl (lv_at hl 1 rfl) ?_
        refine lv_bipush (v := 95) hx hb dX3_count_44 (by decide) ?_
        obtain ⟨x14, e14, r11⟩ := ob r11
        refine m_cvv (As := [.int (95 : Int32)]) (rest := []) C hX hS hl.1 (cm_goesTo l G hG S (95 : Int32) e14) (cwV 1 hts (lw_V q2301 q2303 qs89 q109 q2304) rfl rfl rfl (by decide +kernel) ⟨Nat.le_of_ble_eq_true rfl, Nat.le_of_ble_eq_true rfl⟩) rfl rfl (Nat.le_of_ble_eq_true rfl) dX3_count_46 (fun H locs hX hS => ?_)
        refine lv_iconst (v := 0) hx hb dX3_count_49 (by decide) ?_
        refine lv_istore (lv' := [(4, .int (0 : Int32)), (3, .int (0 : Int32)), (0, .ref (zh G)), (1, .int a1), (2, .int z3)]) hx hb dX3_count_50 hl (by decide) rfl (fun ls hl => ?_)
        obtain ⟨z17, e17, r11⟩ := ob r11
        refine m_join (I := fun (_ : Unit) H locs ls => mX G x14 H ∧ va_S (zA G) s.heap H locs ∧ lv_has ls 5 [(0, .ref (zh G)), (1, .int a1), (2, .int z3), (3, .int z17)]) 85 (fun _ => []) (fun _ H locs ls hi => ?_) (fun J15_85 => ?_)
        · obtain ⟨hX, hS, hl⟩ := hi
          exact J11 _ _ _ ls ⟨(Option.some.inj r11).symm, hX, hS, hl⟩
        refine m_loop e17 (fun (t15 : Int32 × Int32) H locs ls => mX G x14 H ∧ va_S (zA G) s.heap H locs ∧ lv_has ls 5 [(0, .ref (zh G)), (1, .int a1), (2, .int z3), (3, .int t15.1), (4, .int t15.2)]) 52 ⟨hX, hS, lv_sub hl [2, 3, 4, 1, 0] rfl⟩ (fun t15 y15 b15 w15 k15 H locs ls hi => ?_)
        obtain ⟨hX, hS, hl⟩ := hi
        unfold fm_count_l52 at b15
        refine lv_iload hx hb dX3_count_52 (lv_at hl 4 rfl) ?_
        refine lv_aload_n hx hb dX3_count_54 rfl (lv_at hl 0 rfl) ?_
        refine m_gi (k := 54) C q1752 rfl hX dX3_count_55 ?_
        refine lv_icmp_ge (tgt := 85) hx hb dX3_count_58 (by decide) (fun c18 => ?_) (fun c18 => ?_)
        · replace b15 := it c18 b15
          replace b15 := lx b15 w15
          subst b15
          exact J15_85 () _ _ ls ⟨hX, hS, lv_sub hl [0, 1, 2, 3] rfl⟩
        · replace b15 := ie c18 b15
          refine lv_iload_n hx hb dX3_count_61 rfl (lv_at hl 3 rfl) ?_
          refine lv_aload_n hx hb dX3_count_62 rfl (lv_at hl 0 rfl) ?_
          refine m_ga (k := 61) (d := 1) C q1759 rfl (by decide) hX dX3_count_63 ?_
          refine lv_iload hx hb dX3_count_66 (lv_at hl 4 rfl) ?_
          obtain ⟨x19, e19, b15⟩ := ob b15
          refine m_za (k := 61) C rfl hX e19 dX3_count_68 ?_
          obtain ⟨x20, r20, b15⟩ := ob b15
          refine m_join (I := fun (t21 : Int32) H locs ls => x20 = t21 ∧ mX G x14 H ∧ va_S (zA G) s.heap H locs ∧ lv_has ls 5 [(0, .ref (zh G)), (1, .int a1), (2, .int z3), (4, .int t15.2)]) 77 (fun t21 => [.int t21, .int t15.1]) (fun t21 H locs ls hi => ?_) (fun J20 => ?_)
          · obtain ⟨rfl, hX, hS, hl⟩ := hi
            refine lv_iadd hx hb dX3_count_77 ?_
            refine lv_istore_n (lv' := [(3, .int (t15.1 + x20)), (0, .ref (zh G)), (1, .int a1), (2, .int z3), (4, .int t15.2)]) hx hb dX3_count_78 rfl hl (by decide) rfl (fun ls hl => ?_)
            refine lv_iinc (v := (t15.2 + (1 : Int32))) (k := 4) (lv' := [(4, .int (t15.2 + (1 : Int32))), (3, .int (t15.1 + x20)), (0, .ref (zh G)), (1, .int a1), (2, .int z3)]) hx hb dX3_count_79 hl rfl rfl (by decide) rfl (fun ls hl => ?_)
            refine lv_goto (tgt := 52) hx hb dX3_count_82 (by decide) ?_
            obtain ⟨g23, hg23⟩ : ∃ g, g = (t15.1 + x20) := ⟨_, rfl⟩
            rw [← hg23] at hl b15
            obtain ⟨g24, hg24⟩ : ∃ g, g = (t15.2 + (1 : Int32)) := ⟨_, rfl⟩
            rw [← hg24] at hl b15
            exact k15 _ (Option.some.inj b15).symm _ _ ls ⟨hX, hS, lv_sub hl [2, 3, 4, 1, 0] rfl⟩
          · refine lv_if_eq (tgt := 76) hx hb dX3_count_69 (by decide) (fun c22 => ?_) (fun c22 => ?_)
            · replace r20 := it c22 r20
              refine lv_iconst (v := 0) hx hb dX3_count_76 (by decide) ?_
              exact J20 _ _ _ ls ⟨(Option.some.inj r20).symm, hX, hS, lv_sub hl [0, 1, 2, 4] rfl⟩
            · replace r20 := ie c22 r20
              refine lv_iconst (v := 1) hx hb dX3_count_72 (by decide) ?_
              refine lv_goto (tgt := 77) hx hb dX3_count_73 (by decide) ?_
              exact J20 _ _ _ ls ⟨(Option.some.inj r20).symm, hX, hS, lv_sub hl [0, 1, 2, 4] rfl⟩
  refine m_loop e3 (fun (t1 : Int32 × Int32) H locs ls => mX G S H ∧ va_S (zA G) s.heap H locs ∧ lv_has ls 5 [(0, .ref (zh G)), (1, .int a1), (2, .int t1.1), (3, .int t1.2)]) 4 ⟨hX, hS, lv_sub hl [2, 3, 1, 0] rfl⟩ (fun t1 y1 b1 w1 k1 H locs ls hi => ?_)
  obtain ⟨hX, hS, hl⟩ := hi
  unfold fm_count_l4 at b1
  refine lv_iload_n hx hb dX3_count_4 rfl (lv_at hl 3 rfl) ?_
  refine lv_aload_n hx hb dX3_count_5 rfl (lv_at hl 0 rfl) ?_
  refine m_gi (k := 17) C q1715 rfl hX dX3_count_6 ?_
  refine lv_icmp_ge (tgt := 35) hx hb dX3_count_9 (by decide) (fun c4 => ?_) (fun c4 => ?_)
  · replace b1 := it c4 b1
    replace b1 := lx b1 w1
    subst b1
    exact J1_35 () _ _ ls ⟨hX, hS, lv_sub hl [0, 1, 2] rfl⟩
  · replace b1 := ie c4 b1
    refine lv_iload_n hx hb dX3_count_12 rfl (lv_at hl 2 rfl) ?_
    refine lv_aload_n hx hb dX3_count_13 rfl (lv_at hl 0 rfl) ?_
    refine m_ga (k := 21) (d := 1) C q1719 rfl (by decide) hX dX3_count_14 ?_
    refine lv_iload_n hx hb dX3_count_17 rfl (lv_at hl 3 rfl) ?_
    obtain ⟨x5, e5, b1⟩ := ob b1
    refine m_za (k := 21) C rfl hX e5 dX3_count_18 ?_
    obtain ⟨x6, r6, b1⟩ := ob b1
    refine m_join (I := fun (t7 : Int32) H locs ls => x6 = t7 ∧ mX G S H ∧ va_S (zA G) s.heap H locs ∧ lv_has ls 5 [(0, .ref (zh G)), (1, .int a1), (3, .int t1.2)]) 27 (fun t7 => [.int t7, .int t1.1]) (fun t7 H locs ls hi => ?_) (fun J6 => ?_)
    · obtain ⟨rfl, hX, hS, hl⟩ := hi
      refine lv_iadd hx hb dX3_count_27 ?_
      refine lv_istore_n (lv' := [(2, .int (t1.1 + x6)), (0, .ref (zh G)), (1, .int a1), (3, .int t1.2)]) hx hb dX3_count_28 rfl hl (by decide) rfl (fun ls hl => ?_)
      refine lv_iinc (v := (t1.2 + (1 : Int32))) (k := 3) (lv' := [(3, .int (t1.2 + (1 : Int32))), (2, .int (t1.1 + x6)), (0, .ref (zh G)), (1, .int a1)]) hx hb dX3_count_29 hl rfl rfl (by decide) rfl (fun ls hl => ?_)
      refine lv_goto (tgt := 4) hx hb dX3_count_32 (by decide) ?_
      obtain ⟨g9, hg9⟩ : ∃ g, g = (t1.1 + x6) := ⟨_, rfl⟩
      rw [← hg9] at hl b1
      obtain ⟨g10, hg10⟩ : ∃ g, g = (t1.2 + (1 : Int32)) := ⟨_, rfl⟩
      rw [← hg10] at hl b1
      exact k1 _ (Option.some.inj b1).symm _ _ ls ⟨hX, hS, lv_sub hl [2, 3, 1, 0] rfl⟩
    · refine lv_if_eq (tgt := 26) hx hb dX3_count_19 (by decide) (fun c8 => ?_) (fun c8 => ?_)
      · replace r6 := it c8 r6
        refine lv_iconst (v := 0) hx hb dX3_count_26 (by decide) ?_
        exact J6 _ _ _ ls ⟨(Option.some.inj r6).symm, hX, hS, lv_sub hl [0, 1, 3] rfl⟩
      · replace r6 := ie c8 r6
        refine lv_iconst (v := 1) hx hb dX3_count_22 (by decide) ?_
        refine lv_goto (tgt := 27) hx hb dX3_count_23 (by decide) ?_
        exact J6 _ _ _ ls ⟨(Option.some.inj r6).symm, hX, hS, lv_sub hl [0, 1, 3] rfl⟩
