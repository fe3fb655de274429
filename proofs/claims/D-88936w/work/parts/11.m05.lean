/-! M's methods, printed by tool/genm.py -/
def fm_isSign (S : mS) (a1 : Int32) : Int32 :=
  (if (gI S 31) = (3 : Int32) then
  (if (gI S 32) = a1 then
  (1 : Int32)
  else
  (0 : Int32))
  else
  (0 : Int32))
theorem bm_isSign (S : mS) (a1 : Int32) : fm_isSign S a1 = 0 ∨ fm_isSign S a1 = 1 := by
  unfold fm_isSign
  (repeat' split) <;> first | exact Or.inl rfl | exact Or.inr rfl | (apply bm_in)
set_option maxHeartbeats 4000000 in
set_option maxRecDepth 100000 in
theorem cm_isSign (l : Launch) (G : mGh) (hG : mOk G) (S : mS) (a1 : Int32) {r : Int32} (hr : fm_isSign S a1 = r) : Met l yX3_isSign (ws_ yX3_isSign cX3_isSign 2 (some .boolean)) ({ frames := 0, cells := 0, slots := 0, locals := 0 } : Room) (mPc G [.int a1] S) (mQi G r S) 0 0 (zA G) := by
  refine m_met cX3_isSign (by decide) rfl hG (Nat.le_of_ble_eq_true rfl) (fun p e s m args below meth c C hret hlk ls hX hl => ?_)
  have hx := C.1.1
  have hb := C.1.2.1
  have hown := C.1.2.2.2.1
  have hts := C.1.2.2.2.2
  have hS : va_S (zA G) s.heap s.heap [] := va_S.rf
  have hl : lv_has ls 2 [(0, .ref (zh G)), (1, .int a1)] := hl
  unfold fm_isSign at hr
  refine lv_aload_n hx hb dX3_isSign_0 rfl (lv_at hl 0 rfl) ?_
  refine m_gi (k := 31) C q1729 rfl hX dX3_isSign_1 ?_
  refine lv_iconst (v := 3) hx hb dX3_isSign_4 (by decide) ?_
  refine lv_icmp_ne (tgt := 20) hx hb dX3_isSign_5 (by decide) (fun c1 => ?_) (fun c1 => ?_)
  · replace hr := ie c1 hr
    refine lv_iconst (v := 0) hx hb dX3_isSign_20 (by decide) ?_
    exact m_rz (C := C) hret hlk hX hS (by decide) hr dX3_isSign_21
  · replace hr := it c1 hr
    refine lv_aload_n hx hb dX3_isSign_8 rfl (lv_at hl 0 rfl) ?_
    refine m_gi (k := 32) C q1730 rfl hX dX3_isSign_9 ?_
    refine lv_iload_n hx hb dX3_isSign_12 rfl (lv_at hl 1 rfl) ?_
    refine lv_icmp_ne (tgt := 20) hx hb dX3_isSign_13 (by decide) (fun c2 => ?_) (fun c2 => ?_)
    · replace hr := ie c2 hr
      refine lv_iconst (v := 0) hx hb dX3_isSign_20 (by decide) ?_
      exact m_rz (C := C) hret hlk hX hS (by decide) hr dX3_isSign_21
    · replace hr := it c2 hr
      refine lv_iconst (v := 1) hx hb dX3_isSign_16 (by decide) ?_
      refine lv_goto (tgt := 21) hx hb dX3_isSign_17 (by decide) ?_
      exact m_rz (C := C) hret hlk hX hS (by decide) hr dX3_isSign_21

def fm_code (S : mS) (a1 : Int32) : Option mS :=
  (tI S 42 (gI S 43) a1).bind fun x1 =>
  (pI x1 43 ((gI x1 43) + (1 : Int32))).bind fun x2 =>
  some x2
set_option maxHeartbeats 4000000 in
set_option maxRecDepth 100000 in
theorem cm_code (l : Launch) (G : mGh) (hG : mOk G) (S : mS) (a1 : Int32) {S' : mS} (hr : fm_code S a1 = some S') : Met l yX3_code (ws_ yX3_code cX3_code 2 none) ({ frames := 0, cells := 0, slots := 0, locals := 0 } : Room) (mPc G [.int a1] S) (mQv G S') 0 0 (zA G) := by
  refine m_met cX3_code (by decide) rfl hG (Nat.le_of_ble_eq_true rfl) (fun p e s m args below meth c C hret hlk ls hX hl => ?_)
  have hx := C.1.1
  have hb := C.1.2.1
  have hown := C.1.2.2.2.1
  have hts := C.1.2.2.2.2
  have hS : va_S (zA G) s.heap s.heap [] := va_S.rf
  have hl : lv_has ls 2 [(0, .ref (zh G)), (1, .int a1)] := hl
  unfold fm_code at hr
  refine lv_aload_n hx hb dX3_code_0 rfl (lv_at hl 0 rfl) ?_
  refine m_ga (k := 42) (d := 0) C q1740 rfl (by decide) hX dX3_code_1 ?_
  refine lv_aload_n hx hb dX3_code_4 rfl (lv_at hl 0 rfl) ?_
  refine m_gi (k := 43) C q1741 rfl hX dX3_code_5 ?_
  refine lv_iload_n hx hb dX3_code_8 rfl (lv_at hl 1 rfl) ?_
  obtain ⟨x1, e1, hr⟩ := ob hr
  refine m_is (k := 42) C rfl hX hS e1 dX3_code_9 (fun H locs hX hS => ?_)
  refine lv_aload_n hx hb dX3_code_10 rfl (lv_at hl 0 rfl) ?_
  refine lv_dup hx hb dX3_code_11 rfl ?_
  refine m_gi (k := 43) C q1741 rfl hX dX3_code_12 ?_
  refine lv_iconst (v := 1) hx hb dX3_code_15 (by decide) ?_
  refine lv_iadd hx hb dX3_code_16 ?_
  obtain ⟨x2, e2, hr⟩ := ob hr
  refine m_pi (k := 43) C q1741 rfl hX hS e2 dX3_code_17 (fun H locs hX hS => ?_)
  exact m_rvw (C := C) hret hlk hX hS (Option.some.inj hr) dX3_code_20

def fm_rank (a1 : Int32) : Int32 :=
  (if a1 = (42 : Int32) then
  (2 : Int32)
  else
  (if a1 = (43 : Int32) then
  (1 : Int32)
  else
  (if a1 = (45 : Int32) then
  (1 : Int32)
  else
  (0 : Int32))))
set_option maxHeartbeats 4000000 in
set_option maxRecDepth 100000 in
theorem cm_rank (l : Launch) (a1 : Int32) {r : Int32} (hr : fm_rank a1 = r) : Met l yX3_rank (ws_ yX3_rank cX3_rank 1 (some .int)) ({ frames := 0, cells := 0, slots := 0, locals := 0 } : Room) (nPc [.int a1]) (nQi r) 0 0 (fun _ => False) := by
  refine n_met cX3_rank RX3 (by decide) rfl (Nat.le_of_ble_eq_true rfl) (fun p e s m args below meth c C hret hlk ls hl => ?_)
  have hx := C.1
  have hb := C.2.1
  have hown := C.2.2.2.1
  have hts := C.2.2.2.2
  have hl : lv_has ls 1 [(0, .int a1)] := hl
  unfold fm_rank at hr
  refine lv_iload_n hx hb dX3_rank_0 rfl (lv_at hl 0 rfl) ?_
  refine lv_bipush (v := 42) hx hb dX3_rank_1 (by decide) ?_
  refine lv_icmp_ne (tgt := 10) hx hb dX3_rank_3 (by decide) (fun c1 => ?_) (fun c1 => ?_)
  · replace hr := ie c1 hr
    refine lv_iload_n hx hb dX3_rank_10 rfl (lv_at hl 0 rfl) ?_
    refine lv_bipush (v := 43) hx hb dX3_rank_11 (by decide) ?_
    refine lv_icmp_eq (tgt := 22) hx hb dX3_rank_13 (by decide) (fun c2 => ?_) (fun c2 => ?_)
    · replace hr := it c2 hr
      refine lv_iconst (v := 1) hx hb dX3_rank_22 (by decide) ?_
      refine lv_goto (tgt := 27) hx hb dX3_rank_23 (by decide) ?_
      exact n_ri hx hb hret hlk hr dX3_rank_27
    · replace hr := ie c2 hr
      refine lv_iload_n hx hb dX3_rank_16 rfl (lv_at hl 0 rfl) ?_
      refine lv_bipush (v := 45) hx hb dX3_rank_17 (by decide) ?_
      refine lv_icmp_ne (tgt := 26) hx hb dX3_rank_19 (by decide) (fun c3 => ?_) (fun c3 => ?_)
      · replace hr := ie c3 hr
        refine lv_iconst (v := 0) hx hb dX3_rank_26 (by decide) ?_
        exact n_ri hx hb hret hlk hr dX3_rank_27
      · replace hr := it c3 hr
        refine lv_iconst (v := 1) hx hb dX3_rank_22 (by decide) ?_
        refine lv_goto (tgt := 27) hx hb dX3_rank_23 (by decide) ?_
        exact n_ri hx hb hret hlk hr dX3_rank_27
  · replace hr := it c1 hr
    refine lv_iconst (v := 2) hx hb dX3_rank_6 (by decide) ?_
    refine lv_goto (tgt := 27) hx hb dX3_rank_7 (by decide) ?_
    exact n_ri hx hb hret hlk hr dX3_rank_27

def fm_pops_l0 (a1 : Int32) (t1 : mS) : Option ((mS) ⊕ (mS)) :=
  (if (gI t1 45) ≤ 0 then
  some (.inr t1)
  else
  (aI t1 44 ((gI t1 45) - (1 : Int32))).bind fun x5 =>
  (if (fm_rank x5) < a1 then
  some (.inr t1)
  else
  (pI t1 45 ((gI t1 45) - (1 : Int32))).bind fun x7 =>
  (aI x7 44 (gI x7 45)).bind fun x8 =>
  (fm_code x7 ((-100 : Int32) - x8)).bind fun x9 =>
  some (.inl x9)))
def fm_pops (S : mS) (a1 : Int32) : Option mS :=
  (loopO (fm_pops_l0 a1) 1000000 S).bind (fun z3 =>
  some z3)
set_option maxHeartbeats 4000000 in
set_option maxRecDepth 100000 in
theorem cm_pops (l : Launch) (G : mGh) (hG : mOk G) (S : mS) (a1 : Int32) {S' : mS} (hr : fm_pops S a1 = some S') : Met l yX3_pops (ws_ yX3_pops cX3_pops 2 none) ({ frames := 1, cells := 0, slots := 0, locals := 21 } : Room) (mPc G [.int a1] S) (mQv G S') 0 0 (zA G) := by
  refine m_met cX3_pops (by decide) rfl hG (Nat.le_of_ble_eq_true rfl) (fun p e s m args below meth c C hret hlk ls hX hl => ?_)
  have hx := C.1.1
  have hb := C.1.2.1
  have hown := C.1.2.2.2.1
  have hts := C.1.2.2.2.2
  have hS : va_S (zA G) s.heap s.heap [] := va_S.rf
  have hl : lv_has ls 2 [(0, .ref (zh G)), (1, .int a1)] := hl
  unfold fm_pops at hr
  obtain ⟨z3, e3, hr⟩ := ob hr
  refine m_join (I := fun (_ : Unit) H locs ls => mX G z3 H ∧ va_S (zA G) s.heap H locs ∧ lv_has ls 2 []) 54 (fun _ => []) (fun _ H locs ls hi => ?_) (fun J1_54 => ?_)
  · obtain ⟨hX, hS, hl⟩ := hi
    exact m_rvw (C := C) hret hlk hX hS (Option.some.inj hr) dX3_pops_54
  refine m_loop e3 (fun (t1 : mS) H locs ls => mX G t1 H ∧ va_S (zA G) s.heap H locs ∧ lv_has ls 2 [(0, .ref (zh G)), (1, .int a1)]) 0 ⟨hX, hS, hl⟩ (fun t1 y1 b1 w1 k1 H locs ls hi => ?_)
  obtain ⟨hX, hS, hl⟩ := hi
  unfold fm_pops_l0 at b1
  refine lv_aload_n hx hb dX3_pops_0 rfl (lv_at hl 0 rfl) ?_
  refine m_gi (k := 45) C q1743 rfl hX dX3_pops_1 ?_
  refine lv_if_le (tgt := 54) hx hb dX3_pops_4 (by decide) (fun c4 => ?_) (fun c4 => ?_)
  · replace b1 := it c4 b1
    replace b1 := lx b1 w1
    subst b1
    exact J1_54 () _ _ ls ⟨hX, hS, lv_sub hl [] rfl⟩
  · replace b1 := ie c4 b1
    refine lv_aload_n hx hb dX3_pops_7 rfl (lv_at hl 0 rfl) ?_
    refine m_ga (k := 44) (d := 0) C q1742 rfl (by decide) hX dX3_pops_8 ?_
    refine lv_aload_n hx hb dX3_pops_11 rfl (lv_at hl 0 rfl) ?_
    refine m_gi (k := 45) C q1743 rfl hX dX3_pops_12 ?_
    refine lv_iconst (v := 1) hx hb dX3_pops_15 (by decide) ?_
    refine lv_isub hx hb dX3_pops_16 ?_
    obtain ⟨x5, e5, b1⟩ := ob b1
    refine m_ia (k := 44) C rfl hX e5 dX3_pops_17 ?_
    refine m_csi (As := [.int x5]) (rest := []) C hX hS hl.1 (cm_rank l x5 rfl) (va_cwS 1 hts (lw_S q2186 q2187 q109 q2188) rfl rfl rfl (by decide +kernel) ⟨Nat.le_of_ble_eq_true rfl, Nat.le_of_ble_eq_true rfl⟩) rfl rfl (Nat.le_of_ble_eq_true rfl) dX3_pops_18 (fun H locs hX hS => ?_)
    refine lv_iload_n hx hb dX3_pops_21 rfl (lv_at hl 1 rfl) ?_
    refine lv_icmp_lt (tgt := 54) hx hb dX3_pops_22 (by decide) (fun c6 => ?_) (fun c6 => ?_)
    · replace b1 := it c6 b1
      replace b1 := lx b1 w1
      subst b1
      exact J1_54 () _ _ ls ⟨hX, hS, lv_sub hl [] rfl⟩
    · replace b1 := ie c6 b1
      refine lv_aload_n hx hb dX3_pops_25 rfl (lv_at hl 0 rfl) ?_
      refine lv_dup hx hb dX3_pops_26 rfl ?_
      refine m_gi (k := 45) C q1743 rfl hX dX3_pops_27 ?_
      refine lv_iconst (v := 1) hx hb dX3_pops_30 (by decide) ?_
      refine lv_isub hx hb dX3_pops_31 ?_
      obtain ⟨x7, e7, b1⟩ := ob b1
      refine m_pi (k := 45) C q1743 rfl hX hS e7 dX3_pops_32 (fun H locs hX hS => ?_)
      refine lv_aload_n hx hb dX3_pops_35 rfl (lv_at hl 0 rfl) ?_
      refine lv_bipush (v := -100) hx hb dX3_pops_36 (by decide) ?_
      refine lv_aload_n hx hb dX3_pops_38 rfl (lv_at hl 0 rfl) ?_
      refine m_ga (k := 44) (d := 0) C q1742 rfl (by decide) hX dX3_pops_39 ?_
      refine lv_aload_n hx hb dX3_pops_42 rfl (lv_at hl 0 rfl) ?_
      refine m_gi (k := 45) C q1743 rfl hX dX3_pops_43 ?_
      obtain ⟨x8, e8, b1⟩ := ob b1
      refine m_ia (k := 44) C rfl hX e8 dX3_pops_46 ?_
      refine lv_isub hx hb dX3_pops_47 ?_
      obtain ⟨x9, e9, b1⟩ := ob b1
      refine m_cvv (As := [.int ((-100 : Int32) - x8)]) (rest := []) C hX hS hl.1 (cm_code l G hG x7 ((-100 : Int32) - x8) e9) (cwV 1 hts (lw_V q2182 q2184 qs75 q109 q2185) rfl rfl rfl (by decide +kernel) ⟨Nat.le_of_ble_eq_true rfl, Nat.le_of_ble_eq_true rfl⟩) rfl rfl (Nat.le_of_ble_eq_true rfl) dX3_pops_48 (fun H locs hX hS => ?_)
      refine lv_goto (tgt := 0) hx hb dX3_pops_51 (by decide) ?_
      exact k1 _ (Option.some.inj b1).symm _ _ ls ⟨hX, hS, hl⟩

def fm_readSum_k177  (t9 : mS × Int32 × Int32) : Option ((mS × Int32 × Int32 × Int32) ⊕ (mS)) :=
  (fm_pops t9.1 (fm_rank (gI t9.1 32))).bind fun x27 =>
  (tI x27 44 (gI x27 45) (gI x27 32)).bind fun x28 =>
  (pI x28 45 ((gI x28 45) + (1 : Int32))).bind fun x29 =>
  (fm_next x29).bind fun x30 =>
  some (.inl (x30, t9.2.1, (1 : Int32), t9.2.2))
def fm_readSum_k109 (t2 : mS × Int32 × Int32 × Int32) (x34 : Int32) : Option (mS × Int32 × Int32) :=
  (fm_wants t2.1 x34 (2 : Int32)).bind fun x39 =>
  (((if (gI x39 31) = (2 : Int32) then
  some (gI x39 32)
  else
  some ((-1 : Int32) - ((gI x39 32) - (10 : Int32)))) : Option (Int32))).bind (fun x40 =>
  (fm_code x39 x40).bind fun x45 =>
  some (x45, t2.2.1, (0 : Int32)))
def fm_readSum_l11  (t2 : mS × Int32 × Int32 × Int32) : Option ((mS × Int32 × Int32 × Int32) ⊕ (mS)) :=
  (if t2.2.2.2 = 0 then
  some (.inr t2.1)
  else
  (if (gI t2.1 33) = 0 then
  (if t2.2.2.1 = 0 then
  (((if (fm_isSign t2.1 (42 : Int32)) = 0 then
  (if (fm_isSign t2.1 (43 : Int32)) = 0 then
  (if (fm_isSign t2.1 (45 : Int32)) = 0 then
  (if (fm_isSign t2.1 (41 : Int32)) = 0 then
  (((if t2.2.1 = 0 then
  some (1 : Int32)
  else
  some (0 : Int32)) : Option (Int32))).bind (fun x14 =>
  (fm_wants t2.1 x14 (2 : Int32)).bind fun x17 =>
  some (.inr (some (.inl (x17, t2.2.1, t2.2.2.1, (0 : Int32))))))
  else
  (if t2.2.1 ≤ 0 then
  (((if t2.2.1 = 0 then
  some (1 : Int32)
  else
  some (0 : Int32)) : Option (Int32))).bind (fun x19 =>
  (fm_wants t2.1 x19 (2 : Int32)).bind fun x22 =>
  some (.inr (some (.inl (x22, t2.2.1, t2.2.2.1, (0 : Int32))))))
  else
  (fm_pops t2.1 (1 : Int32)).bind fun x23 =>
  (pI x23 45 ((gI x23 45) - (1 : Int32))).bind fun x24 =>
  (fm_next x24).bind fun x25 =>
  some (.inr (some (.inl (x25, (t2.2.1 + (-1 : Int32)), t2.2.2.1, t2.2.2.2))))))
  else
  some (.inl (t2.1, t2.2.1, t2.2.2.2)))
  else
  some (.inl (t2.1, t2.2.1, t2.2.2.2)))
  else
  some (.inl (t2.1, t2.2.1, t2.2.2.2))) : Option ((mS × Int32 × Int32) ⊕ Option ((mS × Int32 × Int32 × Int32) ⊕ (mS))))).bind (sumK (fun t9 => fm_readSum_k177 t9) (fun z => z))
  else
  (((if (fm_isSign t2.1 (40 : Int32)) = 0 then
  (((if (gI t2.1 31) = (2 : Int32) then
  some (1 : Int32)
  else
  (if (gI t2.1 31) = (1 : Int32) then
  (if (gI t2.1 32) < (10 : Int32) then
  some (0 : Int32)
  else
  some (1 : Int32))
  else
  some (0 : Int32))) : Option (Int32))).bind (fun x34 => fm_readSum_k109 t2 x34)
  else
  (((if (6 : Int32) ≤ t2.2.1 then
  some (0 : Int32)
  else
  some (1 : Int32)) : Option (Int32))).bind (fun x46 =>
  (fm_wants t2.1 x46 (3 : Int32)).bind fun x49 =>
  (tI x49 44 (gI x49 45) (40 : Int32)).bind fun x50 =>
  (pI x50 45 ((gI x50 45) + (1 : Int32))).bind fun x51 =>
  some (x51, (t2.2.1 + (1 : Int32)), t2.2.2.1))) : Option (mS × Int32 × Int32))).bind (fun x31 =>
  (fm_next x31.1).bind fun x53 =>
  some (.inl (x53, x31.2.1, x31.2.2, t2.2.2.2))))
  else
  some (.inr t2.1)))
def fm_readSum (S : mS) : Option mS :=
  (pI S 45 (0 : Int32)).bind fun x1 =>
  (loopO fm_readSum_l11 1000000 (x1, (0 : Int32), (1 : Int32), (1 : Int32))).bind (fun z4 =>
  (fm_pops z4 (1 : Int32)).bind fun x54 =>
  some x54)
set_option maxHeartbeats 4000000 in
set_option maxRecDepth 100000 in
theorem cm_readSum (l : Launch) (G : mGh) (hG : mOk G) (S : mS)  {S' : mS} (hr : fm_readSum S = some S') : Met l yX3_readSum (ws_ yX3_readSum cX3_readSum 4 none) ({ frames := 5, cells := 0, slots := 0, locals := 107 } : Room) (mPc G [] S) (mQv G S') 0 0 (zA G) := by
  refine m_met cX3_readSum (by decide) rfl hG (Nat.le_of_ble_eq_true rfl) (fun p e s m args below meth c C hret hlk ls hX hl => ?_)
  have hx := C.1.1
  have hb := C.1.2.1
  have hown := C.1.2.2.2.1
  have hts := C.1.2.2.2.2
  have hS : va_S (zA G) s.heap s.heap [] := va_S.rf
  have hl : lv_has ls 4 [(0, .ref (zh G))] := hl
  unfold fm_readSum at hr
  refine lv_iconst (v := 0) hx hb dX3_readSum_0 (by decide) ?_
  refine lv_istore_n (lv' := [(1, .int (0 : Int32)), (0, .ref (zh G))]) hx hb dX3_readSum_1 rfl hl (by decide) rfl (fun ls hl => ?_)
  refine lv_iconst (v := 1) hx hb dX3_readSum_2 (by decide) ?_
  refine lv_istore_n (lv' := [(2, .int (1 : Int32)), (1, .int (0 : Int32)), (0, .ref (zh G))]) hx hb dX3_readSum_3 rfl hl (by decide) rfl (fun ls hl => ?_)
  refine lv_iconst (v := 1) hx hb dX3_readSum_4 (by decide) ?_
  refine lv_istore_n (lv' := [(3, .int (1 : Int32)), (2, .int (1 : Int32)), (1, .int (0 : Int32)), (0, .ref (zh G))]) hx hb dX3_readSum_5 rfl hl (by decide) rfl (fun ls hl => ?_)
  refine lv_aload_n hx hb dX3_readSum_6 rfl (lv_at hl 3 rfl) ?_
  refine lv_iconst (v := 0) hx hb dX3_readSum_7 (by decide) ?_
  obtain ⟨x1, e1, hr⟩ := ob hr
  refine m_pi (k := 45) C q1743 rfl hX hS e1 dX3_readSum_8 (fun H locs hX hS => ?_)
  obtain ⟨z4, e4, hr⟩ := ob hr
  refine m_join (I := fun (_ : Unit) H locs ls => mX G z4 H ∧ va_S (zA G) s.heap H locs ∧ lv_has ls 4 [(0, .ref (zh G))]) 277 (fun _ => []) (fun _ H locs ls hi => ?_) (fun J2_277 => ?_)
  · obtain ⟨hX, hS, hl⟩ := hi
    refine lv_aload_n hx hb dX3_readSum_277 rfl (lv_at hl 0 rfl) ?_
    refine lv_iconst (v := 1) hx hb dX3_readSum_278 (by decide) ?_
    obtain ⟨x54, e54, hr⟩ := ob hr
    refine m_cvv (As := [.int (1 : Int32)]) (rest := []) C hX hS hl.1 (cm_pops l G hG z4 (1 : Int32) e54) (cwV 1 hts (lw_V q2189 q2191 qs76 q109 q2192) rfl rfl rfl (by decide +kernel) ⟨Nat.le_of_ble_eq_true rfl, Nat.le_of_ble_eq_true rfl⟩) rfl rfl (Nat.le_of_ble_eq_true rfl) dX3_readSum_279 (fun H locs hX hS => ?_)
    exact m_rvw (C := C) hret hlk hX hS (Option.some.inj hr) dX3_readSum_282
  refine m_loop e4 (fun (t2 : mS × Int32 × Int32 × Int32) H locs ls => mX G t2.1 H ∧ va_S (zA G) s.heap H locs ∧ lv_has ls 4 [(0, .ref (zh G)), (1, .int t2.2.1), (2, .int t2.2.2.1), (3, .int t2.2.2.2)]) 11 ⟨hX, hS, lv_sub hl [3, 2, 1, 0] rfl⟩ (fun t2 y2 b2 w2 k2 H locs ls hi => ?_)
  obtain ⟨hX, hS, hl⟩ := hi
  unfold fm_readSum_l11 at b2
  refine lv_iload_n hx hb dX3_readSum_11 rfl (lv_at hl 3 rfl) ?_
  refine lv_if_eq (tgt := 277) hx hb dX3_readSum_12 (by decide) (fun c5 => ?_) (fun c5 => ?_)
  · replace b2 := it c5 b2
    replace b2 := lx b2 w2
    subst b2
    exact J2_277 () _ _ ls ⟨hX, hS, lv_sub hl [0] rfl⟩
  · replace b2 := ie c5 b2
    refine lv_aload_n hx hb dX3_readSum_15 rfl (lv_at hl 0 rfl) ?_
    refine m_gi (k := 33) C q1731 rfl hX dX3_readSum_16 ?_
    refine lv_if_ne (tgt := 277) hx hb dX3_readSum_19 (by decide) (fun c6 => ?_) (fun c6 => ?_)
    · replace b2 := ie c6 b2
      replace b2 := lx b2 w2
      subst b2
      exact J2_277 () _ _ ls ⟨hX, hS, lv_sub hl [0] rfl⟩
    · replace b2 := it c6 b2
      refine lv_iload_n hx hb dX3_readSum_22 rfl (lv_at hl 2 rfl) ?_
      refine lv_if_eq (tgt := 150) hx hb dX3_readSum_23 (by decide) (fun c7 => ?_) (fun c7 => ?_)
      · replace b2 := it c7 b2
        refine lv_aload_n hx hb dX3_readSum_150 rfl (lv_at hl 0 rfl) ?_
        refine lv_bipush (v := 42) hx hb dX3_readSum_151 (by decide) ?_
        refine m_cvi (As := [.int (42 : Int32)]) (rest := []) C hX hS hl.1 (cm_isSign l G hG t2.1 (42 : Int32) rfl) (cwV 1 hts (lw_V q2178 q2180 qs74 q109 q2181) rfl rfl rfl (by decide +kernel) ⟨Nat.le_of_ble_eq_true rfl, Nat.le_of_ble_eq_true rfl⟩) rfl rfl (Nat.le_of_ble_eq_true rfl) dX3_readSum_153 (fun H locs hX hS => ?_)
        obtain ⟨x8, r8, b2⟩ := ob b2
        refine m_join (I := fun (t9 : mS × Int32 × Int32) H locs ls => x8 = .inl t9 ∧ mX G t9.1 H ∧ va_S (zA G) s.heap H locs ∧ lv_has ls 4 [(0, .ref (zh G)), (1, .int t9.2.1), (3, .int t9.2.2)]) 177 (fun t9 => []) (fun t9 H locs ls hi => ?_) (fun J8 => ?_)
        · obtain ⟨rfl, hX, hS, hl⟩ := hi
          replace b2 := sk_l b2
          unfold fm_readSum_k177 at b2
          refine lv_aload_n hx hb dX3_readSum_177 rfl (lv_at hl 0 rfl) ?_
          refine lv_aload_n hx hb dX3_readSum_178 rfl (lv_at hl 0 rfl) ?_
          refine m_gi (k := 32) C q1730 rfl hX dX3_readSum_179 ?_
          refine m_csi (As := [.int (gI t9.1 32)]) (rest := [.ref (zh G)]) C hX hS hl.1 (cm_rank l (gI t9.1 32) rfl) (va_cwS 1 hts (lw_S q2186 q2187 q109 q2188) rfl rfl rfl (by decide +kernel) ⟨Nat.le_of_ble_eq_true rfl, Nat.le_of_ble_eq_true rfl⟩) rfl rfl (Nat.le_of_ble_eq_true rfl) dX3_readSum_182 (fun H locs hX hS => ?_)
          obtain ⟨x27, e27, b2⟩ := ob b2
          refine m_cvv (As := [.int (fm_rank (gI t9.1 32))]) (rest := []) C hX hS hl.1 (cm_pops l G hG t9.1 (fm_rank (gI t9.1 32)) e27) (cwV 1 hts (lw_V q2189 q2191 qs76 q109 q2192) rfl rfl rfl (by decide +kernel) ⟨Nat.le_of_ble_eq_true rfl, Nat.le_of_ble_eq_true rfl⟩) rfl rfl (Nat.le_of_ble_eq_true rfl) dX3_readSum_185 (fun H locs hX hS => ?_)
          refine lv_aload_n hx hb dX3_readSum_188 rfl (lv_at hl 0 rfl) ?_
          refine m_ga (k := 44) (d := 0) C q1742 rfl (by decide) hX dX3_readSum_189 ?_
          refine lv_aload_n hx hb dX3_readSum_192 rfl (lv_at hl 0 rfl) ?_
          refine m_gi (k := 45) C q1743 rfl hX dX3_readSum_193 ?_
          refine lv_aload_n hx hb dX3_readSum_196 rfl (lv_at hl 0 rfl) ?_
          refine m_gi (k := 32) C q1730 rfl hX dX3_readSum_197 ?_
          obtain ⟨x28, e28, b2⟩ := ob b2
          refine m_is (k := 44) C rfl hX hS e28 dX3_readSum_200 (fun H locs hX hS => ?_)
          refine lv_aload_n hx hb dX3_readSum_201 rfl (lv_at hl 0 rfl) ?_
          refine lv_dup hx hb dX3_readSum_202 rfl ?_
          refine m_gi (k := 45) C q1743 rfl hX dX3_readSum_203 ?_
          refine lv_iconst (v := 1) hx hb dX3_readSum_206 (by decide) ?_
          refine lv_iadd hx hb dX3_readSum_207 ?_
          obtain ⟨x29, e29, b2⟩ := ob b2
          refine m_pi (k := 45) C q1743 rfl hX hS e29 dX3_readSum_208 (fun H locs hX hS => ?_)
          refine lv_iconst (v := 1) hx hb dX3_readSum_211 (by decide) ?_
          refine lv_istore_n (lv' := [(2, .int (1 : Int32)), (0, .ref (zh G)), (1, .int t9.2.1), (3, .int t9.2.2)]) hx hb dX3_readSum_212 rfl hl (by decide) rfl (fun ls hl => ?_)
          refine lv_aload_n hx hb dX3_readSum_213 rfl (lv_at hl 1 rfl) ?_
          obtain ⟨x30, e30, b2⟩ := ob b2
          refine m_cvv (As := []) (rest := []) C hX hS hl.1 (cm_next l G hG x29  e30) (cwV 0 hts (lw_V q2138 q2140 qs65 q109 q2141) rfl rfl rfl (by decide +kernel) ⟨Nat.le_of_ble_eq_true rfl, Nat.le_of_ble_eq_true rfl⟩) rfl rfl (Nat.le_of_ble_eq_true rfl) dX3_readSum_214 (fun H locs hX hS => ?_)
          refine lv_goto (tgt := 11) hx hb dX3_readSum_217 (by decide) ?_
          exact k2 _ (Option.some.inj b2).symm _ _ ls ⟨hX, hS, lv_sub hl [1, 2, 0, 3] rfl⟩
        · refine lv_if_ne (tgt := 177) hx hb dX3_readSum_156 (by decide) (fun c10 => ?_) (fun c10 => ?_)
          · replace r8 := ie c10 r8
            exact J8 _ _ _ ls ⟨(Option.some.inj r8).symm, hX, hS, lv_sub hl [0, 1, 3] rfl⟩
          · replace r8 := it c10 r8
            refine lv_aload_n hx hb dX3_readSum_159 rfl (lv_at hl 0 rfl) ?_
            refine lv_bipush (v := 43) hx hb dX3_readSum_160 (by decide) ?_
            refine m_cvi (As := [.int (43 : Int32)]) (rest := []) C hX hS hl.1 (cm_isSign l G hG t2.1 (43 : Int32) rfl) (cwV 1 hts (lw_V q2178 q2180 qs74 q109 q2181) rfl rfl rfl (by decide +kernel) ⟨Nat.le_of_ble_eq_true rfl, Nat.le_of_ble_eq_true rfl⟩) rfl rfl (Nat.le_of_ble_eq_true rfl) dX3_readSum_162 (fun H locs hX hS => ?_)
            refine lv_if_ne (tgt := 177) hx hb dX3_readSum_165 (by decide) (fun c11 => ?_) (fun c11 => ?_)
            · replace r8 := ie c11 r8
              exact J8 _ _ _ ls ⟨(Option.some.inj r8).symm, hX, hS, lv_sub hl [0, 1, 3] rfl⟩
            · replace r8 := it c11 r8
              refine lv_aload_n hx hb dX3_readSum_168 rfl (lv_at hl 0 rfl) ?_
              refine lv_bipush (v := 45) hx hb dX3_readSum_169 (by decide) ?_
              refine m_cvi (As := [.int (45 : Int32)]) (rest := []) C hX hS hl.1 (cm_isSign l G hG t2.1 (45 : Int32) rfl) (cwV 1 hts (lw_V q2178 q2180 qs74 q109 q2181) rfl rfl rfl (by decide +kernel) ⟨Nat.le_of_ble_eq_true rfl, Nat.le_of_ble_eq_true rfl⟩) rfl rfl (Nat.le_of_ble_eq_true rfl) dX3_readSum_171 (fun H locs hX hS => ?_)
              refine lv_if_eq (tgt := 220) hx hb dX3_readSum_174 (by decide) (fun c12 => ?_) (fun c12 => ?_)
              · replace r8 := it c12 r8
                refine lv_aload_n hx hb dX3_readSum_220 rfl (lv_at hl 0 rfl) ?_
                refine lv_bipush (v := 41) hx hb dX3_readSum_221 (by decide) ?_
                refine m_cvi (As := [.int (41 : Int32)]) (rest := []) C hX hS hl.1 (cm_isSign l G hG t2.1 (41 : Int32) rfl) (cwV 1 hts (lw_V q2178 q2180 qs74 q109 q2181) rfl rfl rfl (by decide +kernel) ⟨Nat.le_of_ble_eq_true rfl, Nat.le_of_ble_eq_true rfl⟩) rfl rfl (Nat.le_of_ble_eq_true rfl) dX3_readSum_223 (fun H locs hX hS => ?_)
                refine lv_if_eq (tgt := 258) hx hb dX3_readSum_226 (by decide) (fun c13 => ?_) (fun c13 => ?_)
                · replace r8 := it c13 r8
                  refine lv_aload_n hx hb dX3_readSum_258 rfl (lv_at hl 0 rfl) ?_
                  refine lv_iload_n hx hb dX3_readSum_259 rfl (lv_at hl 1 rfl) ?_
                  obtain ⟨x14, r14, r8⟩ := ob r8
                  refine m_join (I := fun (t15 : Int32) H locs ls => x14 = t15 ∧ mX G t2.1 H ∧ va_S (zA G) s.heap H locs ∧ lv_has ls 4 [(0, .ref (zh G)), (1, .int t2.2.1), (2, .int t2.2.2.1)]) 268 (fun t15 => [.int t15, .ref (zh G)]) (fun t15 H locs ls hi => ?_) (fun J14 => ?_)
                  · obtain ⟨rfl, hX, hS, hl⟩ := hi
                    refine lv_iconst (v := 2) hx hb dX3_readSum_268 (by decide) ?_
                    obtain ⟨x17, e17, r8⟩ := ob r8
                    refine m_cvv (As := [.int x14, .int (2 : Int32)]) (rest := []) C hX hS hl.1 (cm_wants l G hG t2.1 x14 (2 : Int32) e17) (cwV 2 hts (lw_V q2164 q2166 qs71 q109 q2167) rfl rfl rfl (by decide +kernel) ⟨Nat.le_of_ble_eq_true rfl, Nat.le_of_ble_eq_true rfl⟩) rfl rfl (Nat.le_of_ble_eq_true rfl) dX3_readSum_269 (fun H locs hX hS => ?_)
                    refine lv_iconst (v := 0) hx hb dX3_readSum_272 (by decide) ?_
                    refine lv_istore_n (lv' := [(3, .int (0 : Int32)), (0, .ref (zh G)), (1, .int t2.2.1), (2, .int t2.2.2.1)]) hx hb dX3_readSum_273 rfl hl (by decide) rfl (fun ls hl => ?_)
                    refine lv_goto (tgt := 11) hx hb dX3_readSum_274 (by decide) ?_
                    replace r8 := Option.some.inj r8
                    subst r8
                    replace b2 := sk_r b2
                    exact k2 _ (Option.some.inj b2).symm _ _ ls ⟨hX, hS, lv_sub hl [1, 2, 3, 0] rfl⟩
                  · refine lv_if_ne (tgt := 267) hx hb dX3_readSum_260 (by decide) (fun c16 => ?_) (fun c16 => ?_)
                    · replace r14 := ie c16 r14
                      refine lv_iconst (v := 0) hx hb dX3_readSum_267 (by decide) ?_
                      exact J14 _ _ _ ls ⟨(Option.some.inj r14).symm, hX, hS, lv_sub hl [0, 1, 2] rfl⟩
                    · replace r14 := it c16 r14
                      refine lv_iconst (v := 1) hx hb dX3_readSum_263 (by decide) ?_
                      refine lv_goto (tgt := 268) hx hb dX3_readSum_264 (by decide) ?_
                      exact J14 _ _ _ ls ⟨(Option.some.inj r14).symm, hX, hS, lv_sub hl [0, 1, 2] rfl⟩
                · replace r8 := ie c13 r8
                  refine lv_iload_n hx hb dX3_readSum_229 rfl (lv_at hl 1 rfl) ?_
                  refine lv_if_le (tgt := 258) hx hb dX3_readSum_230 (by decide) (fun c18 => ?_) (fun c18 => ?_)
                  · replace r8 := it c18 r8
                    refine lv_aload_n hx hb dX3_readSum_258 rfl (lv_at hl 0 rfl) ?_
                    refine lv_iload_n hx hb dX3_readSum_259 rfl (lv_at hl 1 rfl) ?_
                    obtain ⟨x19, r19, r8⟩ := ob r8
                    refine m_join (I := fun (t20 : Int32) H locs ls => x19 = t20 ∧ mX G t2.1 H ∧ va_S (zA G) s.heap H locs ∧ lv_has ls 4 [(0, .ref (zh G)), (1, .int t2.2.1), (2, .int t2.2.2.1)]) 268 (fun t20 => [.int t20, .ref (zh G)]) (fun t20 H locs ls hi => ?_) (fun J19 => ?_)
                    · obtain ⟨rfl, hX, hS, hl⟩ := hi
                      refine lv_iconst (v := 2) hx hb dX3_readSum_268 (by decide) ?_
                      obtain ⟨x22, e22, r8⟩ := ob r8
                      refine m_cvv (As := [.int x19, .int (2 : Int32)]) (rest := []) C hX hS hl.1 (cm_wants l G hG t2.1 x19 (2 : Int32) e22) (cwV 2 hts (lw_V q2164 q2166 qs71 q109 q2167) rfl rfl rfl (by decide +kernel) ⟨Nat.le_of_ble_eq_true rfl, Nat.le_of_ble_eq_true rfl⟩) rfl rfl (Nat.le_of_ble_eq_true rfl) dX3_readSum_269 (fun H locs hX hS => ?_)
                      refine lv_iconst (v := 0) hx hb dX3_readSum_272 (by decide) ?_
                      refine lv_istore_n (lv' := [(3, .int (0 : Int32)), (0, .ref (zh G)), (1, .int t2.2.1), (2, .int t2.2.2.1)]) hx hb dX3_readSum_273 rfl hl (by decide) rfl (fun ls hl => ?_)
                      refine lv_goto (tgt := 11) hx hb dX3_readSum_274 (by decide) ?_
                      replace r8 := Option.some.inj r8
                      subst r8
                      replace b2 := sk_r b2
                      exact k2 _ (Option.some.inj b2).symm _ _ ls ⟨hX, hS, lv_sub hl [1, 2, 3, 0] rfl⟩
                    · refine lv_if_ne (tgt := 267) hx hb dX3_readSum_260 (by decide) (fun c21 => ?_) (fun c21 => ?_)
                      · replace r19 := ie c21 r19
                        refine lv_iconst (v := 0) hx hb dX3_readSum_267 (by decide) ?_
                        exact J19 _ _ _ ls ⟨(Option.some.inj r19).symm, hX, hS, lv_sub hl [0, 1, 2] rfl⟩
                      · replace r19 := it c21 r19
                        refine lv_iconst (v := 1) hx hb dX3_readSum_263 (by decide) ?_
                        refine lv_goto (tgt := 268) hx hb dX3_readSum_264 (by decide) ?_
                        exact J19 _ _ _ ls ⟨(Option.some.inj r19).symm, hX, hS, lv_sub hl [0, 1, 2] rfl⟩
                  · replace r8 := ie c18 r8
                    refine lv_aload_n hx hb dX3_readSum_233 rfl (lv_at hl 0 rfl) ?_
                    refine lv_iconst (v := 1) hx hb dX3_readSum_234 (by decide) ?_
                    obtain ⟨x23, e23, r8⟩ := ob r8
                    refine m_cvv (As := [.int (1 : Int32)]) (rest := []) C hX hS hl.1 (cm_pops l G hG t2.1 (1 : Int32) e23) (cwV 1 hts (lw_V q2189 q2191 qs76 q109 q2192) rfl rfl rfl (by decide +kernel) ⟨Nat.le_of_ble_eq_true rfl, Nat.le_of_ble_eq_true rfl⟩) rfl rfl (Nat.le_of_ble_eq_true rfl) dX3_readSum_235 (fun H locs hX hS => ?_)
                    refine lv_aload_n hx hb dX3_readSum_238 rfl (lv_at hl 0 rfl) ?_
                    refine lv_dup hx hb dX3_readSum_239 rfl ?_
                    refine m_gi (k := 45) C q1743 rfl hX dX3_readSum_240 ?_
                    refine lv_iconst (v := 1) hx hb dX3_readSum_243 (by decide) ?_
                    refine lv_isub hx hb dX3_readSum_244 ?_
                    obtain ⟨x24, e24, r8⟩ := ob r8
                    refine m_pi (k := 45) C q1743 rfl hX hS e24 dX3_readSum_245 (fun H locs hX hS => ?_)
                    refine lv_iinc (v := (t2.2.1 + (-1 : Int32))) (k := 1) (lv' := [(1, .int (t2.2.1 + (-1 : Int32))), (0, .ref (zh G)), (2, .int t2.2.2.1), (3, .int t2.2.2.2)]) hx hb dX3_readSum_248 hl rfl rfl (by decide) rfl (fun ls hl => ?_)
                    refine lv_aload_n hx hb dX3_readSum_251 rfl (lv_at hl 1 rfl) ?_
                    obtain ⟨x25, e25, r8⟩ := ob r8
                    refine m_cvv (As := []) (rest := []) C hX hS hl.1 (cm_next l G hG x24  e25) (cwV 0 hts (lw_V q2138 q2140 qs65 q109 q2141) rfl rfl rfl (by decide +kernel) ⟨Nat.le_of_ble_eq_true rfl, Nat.le_of_ble_eq_true rfl⟩) rfl rfl (Nat.le_of_ble_eq_true rfl) dX3_readSum_252 (fun H locs hX hS => ?_)
                    refine lv_goto (tgt := 11) hx hb dX3_readSum_255 (by decide) ?_
                    replace r8 := Option.some.inj r8
                    subst r8
                    replace b2 := sk_r b2
                    obtain ⟨g26, hg26⟩ : ∃ g, g = (t2.2.1 + (-1 : Int32)) := ⟨_, rfl⟩
                    rw [← hg26] at hl b2
                    exact k2 _ (Option.some.inj b2).symm _ _ ls ⟨hX, hS, lv_sub hl [1, 0, 2, 3] rfl⟩
              · replace r8 := ie c12 r8
                exact J8 _ _ _ ls ⟨(Option.some.inj r8).symm, hX, hS, lv_sub hl [0, 1, 3] rfl⟩
      · replace b2 := ie c7 b2
        refine lv_aload_n hx hb dX3_readSum_26 rfl (lv_at hl 0 rfl) ?_
        refine lv_bipush (v := 40) hx hb dX3_readSum_27 (by decide) ?_
        refine m_cvi (As := [.int (40 : Int32)]) (rest := []) C hX hS hl.1 (cm_isSign l G hG t2.1 (40 : Int32) rfl) (cwV 1 hts (lw_V q2178 q2180 qs74 q109 q2181) rfl rfl rfl (by decide +kernel) ⟨Nat.le_of_ble_eq_true rfl, Nat.le_of_ble_eq_true rfl⟩) rfl rfl (Nat.le_of_ble_eq_true rfl) dX3_readSum_29 (fun H locs hX hS => ?_)
        obtain ⟨x31, r31, b2⟩ := ob b2
        refine m_join (I := fun (t32 : mS × Int32 × Int32) H locs ls => x31 = t32 ∧ mX G t32.1 H ∧ va_S (zA G) s.heap H locs ∧ lv_has ls 4 [(0, .ref (zh G)), (1, .int t32.2.1), (2, .int t32.2.2), (3, .int t2.2.2.2)]) 143 (fun t32 => []) (fun t32 H locs ls hi => ?_) (fun J31 => ?_)
        · obtain ⟨rfl, hX, hS, hl⟩ := hi
          refine lv_aload_n hx hb dX3_readSum_143 rfl (lv_at hl 0 rfl) ?_
          obtain ⟨x53, e53, b2⟩ := ob b2
          refine m_cvv (As := []) (rest := []) C hX hS hl.1 (cm_next l G hG x31.1  e53) (cwV 0 hts (lw_V q2138 q2140 qs65 q109 q2141) rfl rfl rfl (by decide +kernel) ⟨Nat.le_of_ble_eq_true rfl, Nat.le_of_ble_eq_true rfl⟩) rfl rfl (Nat.le_of_ble_eq_true rfl) dX3_readSum_144 (fun H locs hX hS => ?_)
          refine lv_goto (tgt := 11) hx hb dX3_readSum_147 (by decide) ?_
          exact k2 _ (Option.some.inj b2).symm _ _ ls ⟨hX, hS, hl⟩
        · refine lv_if_eq (tgt := 78) hx hb dX3_readSum_32 (by decide) (fun c33 => ?_) (fun c33 => ?_)
          · replace r31 := it c33 r31
            refine lv_aload_n hx hb dX3_readSum_78 rfl (lv_at hl 0 rfl) ?_
            refine lv_aload_n hx hb dX3_readSum_79 rfl (lv_at hl 0 rfl) ?_
            refine m_gi (k := 31) C q1729 rfl hX dX3_readSum_80 ?_
            refine lv_iconst (v := 2) hx hb dX3_readSum_83 (by decide) ?_
            obtain ⟨x34, r34, r31⟩ := ob r31
            refine m_join (I := fun (t35 : Int32) H locs ls => x34 = t35 ∧ mX G t2.1 H ∧ va_S (zA G) s.heap H locs ∧ lv_has ls 4 [(0, .ref (zh G)), (1, .int t2.2.1), (3, .int t2.2.2.2)]) 109 (fun t35 => [.int t35, .ref (zh G)]) (fun t35 H locs ls hi => ?_) (fun J34 => ?_)
            · obtain ⟨rfl, hX, hS, hl⟩ := hi
              unfold fm_readSum_k109 at r31
              refine lv_iconst (v := 2) hx hb dX3_readSum_109 (by decide) ?_
              obtain ⟨x39, e39, r31⟩ := ob r31
              refine m_cvv (As := [.int x34, .int (2 : Int32)]) (rest := []) C hX hS hl.1 (cm_wants l G hG t2.1 x34 (2 : Int32) e39) (cwV 2 hts (lw_V q2164 q2166 qs71 q109 q2167) rfl rfl rfl (by decide +kernel) ⟨Nat.le_of_ble_eq_true rfl, Nat.le_of_ble_eq_true rfl⟩) rfl rfl (Nat.le_of_ble_eq_true rfl) dX3_readSum_110 (fun H locs hX hS => ?_)
              refine lv_aload_n hx hb dX3_readSum_113 rfl (lv_at hl 0 rfl) ?_
              refine lv_aload_n hx hb dX3_readSum_114 rfl (lv_at hl 0 rfl) ?_
              refine m_gi (k := 31) C q1729 rfl hX dX3_readSum_115 ?_
              refine lv_iconst (v := 2) hx hb dX3_readSum_118 (by decide) ?_
              obtain ⟨x40, r40, r31⟩ := ob r31
              refine m_join (I := fun (t41 : Int32) H locs ls => x40 = t41 ∧ mX G x39 H ∧ va_S (zA G) s.heap H locs ∧ lv_has ls 4 [(0, .ref (zh G)), (1, .int t2.2.1), (3, .int t2.2.2.2)]) 138 (fun t41 => [.int t41, .ref (zh G)]) (fun t41 H locs ls hi => ?_) (fun J40 => ?_)
              · obtain ⟨rfl, hX, hS, hl⟩ := hi
                obtain ⟨x45, e45, r31⟩ := ob r31
                refine m_cvv (As := [.int x40]) (rest := []) C hX hS hl.1 (cm_code l G hG x39 x40 e45) (cwV 1 hts (lw_V q2182 q2184 qs75 q109 q2185) rfl rfl rfl (by decide +kernel) ⟨Nat.le_of_ble_eq_true rfl, Nat.le_of_ble_eq_true rfl⟩) rfl rfl (Nat.le_of_ble_eq_true rfl) dX3_readSum_138 (fun H locs hX hS => ?_)
                refine lv_iconst (v := 0) hx hb dX3_readSum_141 (by decide) ?_
                refine lv_istore_n (lv' := [(2, .int (0 : Int32)), (0, .ref (zh G)), (1, .int t2.2.1), (3, .int t2.2.2.2)]) hx hb dX3_readSum_142 rfl hl (by decide) rfl (fun ls hl => ?_)
                exact J31 _ _ _ ls ⟨(Option.some.inj r31).symm, hX, hS, lv_sub hl [1, 2, 0, 3] rfl⟩
              · refine lv_icmp_ne (tgt := 129) hx hb dX3_readSum_119 (by decide) (fun c42 => ?_) (fun c42 => ?_)
                · replace r40 := ie c42 r40
                  refine lv_iconst (v := -1) hx hb dX3_readSum_129 (by decide) ?_
                  refine lv_aload_n hx hb dX3_readSum_130 rfl (lv_at hl 0 rfl) ?_
                  refine m_gi (k := 32) C q1730 rfl hX dX3_readSum_131 ?_
                  refine lv_bipush (v := 10) hx hb dX3_readSum_134 (by decide) ?_
                  refine lv_isub hx hb dX3_readSum_136 ?_
                  refine lv_isub hx hb dX3_readSum_137 ?_
                  obtain ⟨g43, hg43⟩ : ∃ g, g = ((-1 : Int32) - ((gI x39 32) - (10 : Int32))) := ⟨_, rfl⟩
                  rw [← hg43] at ⊢ r40
                  exact J40 _ _ _ ls ⟨(Option.some.inj r40).symm, hX, hS, hl⟩
                · replace r40 := it c42 r40
                  refine lv_aload_n hx hb dX3_readSum_122 rfl (lv_at hl 0 rfl) ?_
                  refine m_gi (k := 32) C q1730 rfl hX dX3_readSum_123 ?_
                  refine lv_goto (tgt := 138) hx hb dX3_readSum_126 (by decide) ?_
                  obtain ⟨g44, hg44⟩ : ∃ g, g = (gI x39 32) := ⟨_, rfl⟩
                  rw [← hg44] at ⊢ r40
                  exact J40 _ _ _ ls ⟨(Option.some.inj r40).symm, hX, hS, hl⟩
            · refine lv_icmp_eq (tgt := 104) hx hb dX3_readSum_84 (by decide) (fun c36 => ?_) (fun c36 => ?_)
              · replace r34 := it c36 r34
                refine lv_iconst (v := 1) hx hb dX3_readSum_104 (by decide) ?_
                refine lv_goto (tgt := 109) hx hb dX3_readSum_105 (by decide) ?_
                exact J34 _ _ _ ls ⟨(Option.some.inj r34).symm, hX, hS, lv_sub hl [0, 1, 3] rfl⟩
              · replace r34 := ie c36 r34
                refine lv_aload_n hx hb dX3_readSum_87 rfl (lv_at hl 0 rfl) ?_
                refine m_gi (k := 31) C q1729 rfl hX dX3_readSum_88 ?_
                refine lv_iconst (v := 1) hx hb dX3_readSum_91 (by decide) ?_
                refine lv_icmp_ne (tgt := 108) hx hb dX3_readSum_92 (by decide) (fun c37 => ?_) (fun c37 => ?_)
                · replace r34 := ie c37 r34
                  refine lv_iconst (v := 0) hx hb dX3_readSum_108 (by decide) ?_
                  exact J34 _ _ _ ls ⟨(Option.some.inj r34).symm, hX, hS, lv_sub hl [0, 1, 3] rfl⟩
                · replace r34 := it c37 r34
                  refine lv_aload_n hx hb dX3_readSum_95 rfl (lv_at hl 0 rfl) ?_
                  refine m_gi (k := 32) C q1730 rfl hX dX3_readSum_96 ?_
                  refine lv_bipush (v := 10) hx hb dX3_readSum_99 (by decide) ?_
                  refine lv_icmp_lt (tgt := 108) hx hb dX3_readSum_101 (by decide) (fun c38 => ?_) (fun c38 => ?_)
                  · replace r34 := it c38 r34
                    refine lv_iconst (v := 0) hx hb dX3_readSum_108 (by decide) ?_
                    exact J34 _ _ _ ls ⟨(Option.some.inj r34).symm, hX, hS, lv_sub hl [0, 1, 3] rfl⟩
                  · replace r34 := ie c38 r34
                    refine lv_iconst (v := 1) hx hb dX3_readSum_104 (by decide) ?_
                    refine lv_goto (tgt := 109) hx hb dX3_readSum_105 (by decide) ?_
                    exact J34 _ _ _ ls ⟨(Option.some.inj r34).symm, hX, hS, lv_sub hl [0, 1, 3] rfl⟩
          · replace r31 := ie c33 r31
            refine lv_aload_n hx hb dX3_readSum_35 rfl (lv_at hl 0 rfl) ?_
            refine lv_iload_n hx hb dX3_readSum_36 rfl (lv_at hl 1 rfl) ?_
            refine lv_bipush (v := 6) hx hb dX3_readSum_37 (by decide) ?_
            obtain ⟨x46, r46, r31⟩ := ob r31
            refine m_join (I := fun (t47 : Int32) H locs ls => x46 = t47 ∧ mX G t2.1 H ∧ va_S (zA G) s.heap H locs ∧ lv_has ls 4 [(0, .ref (zh G)), (1, .int t2.2.1), (2, .int t2.2.2.1), (3, .int t2.2.2.2)]) 47 (fun t47 => [.int t47, .ref (zh G)]) (fun t47 H locs ls hi => ?_) (fun J46 => ?_)
            · obtain ⟨rfl, hX, hS, hl⟩ := hi
              refine lv_iconst (v := 3) hx hb dX3_readSum_47 (by decide) ?_
              obtain ⟨x49, e49, r31⟩ := ob r31
              refine m_cvv (As := [.int x46, .int (3 : Int32)]) (rest := []) C hX hS hl.1 (cm_wants l G hG t2.1 x46 (3 : Int32) e49) (cwV 2 hts (lw_V q2164 q2166 qs71 q109 q2167) rfl rfl rfl (by decide +kernel) ⟨Nat.le_of_ble_eq_true rfl, Nat.le_of_ble_eq_true rfl⟩) rfl rfl (Nat.le_of_ble_eq_true rfl) dX3_readSum_48 (fun H locs hX hS => ?_)
              refine lv_iinc (v := (t2.2.1 + (1 : Int32))) (k := 1) (lv' := [(1, .int (t2.2.1 + (1 : Int32))), (0, .ref (zh G)), (2, .int t2.2.2.1), (3, .int t2.2.2.2)]) hx hb dX3_readSum_51 hl rfl rfl (by decide) rfl (fun ls hl => ?_)
              refine lv_aload_n hx hb dX3_readSum_54 rfl (lv_at hl 1 rfl) ?_
              refine m_ga (k := 44) (d := 0) C q1742 rfl (by decide) hX dX3_readSum_55 ?_
              refine lv_aload_n hx hb dX3_readSum_58 rfl (lv_at hl 1 rfl) ?_
              refine m_gi (k := 45) C q1743 rfl hX dX3_readSum_59 ?_
              refine lv_bipush (v := 40) hx hb dX3_readSum_62 (by decide) ?_
              obtain ⟨x50, e50, r31⟩ := ob r31
              refine m_is (k := 44) C rfl hX hS e50 dX3_readSum_64 (fun H locs hX hS => ?_)
              refine lv_aload_n hx hb dX3_readSum_65 rfl (lv_at hl 1 rfl) ?_
              refine lv_dup hx hb dX3_readSum_66 rfl ?_
              refine m_gi (k := 45) C q1743 rfl hX dX3_readSum_67 ?_
              refine lv_iconst (v := 1) hx hb dX3_readSum_70 (by decide) ?_
              refine lv_iadd hx hb dX3_readSum_71 ?_
              obtain ⟨x51, e51, r31⟩ := ob r31
              refine m_pi (k := 45) C q1743 rfl hX hS e51 dX3_readSum_72 (fun H locs hX hS => ?_)
              refine lv_goto (tgt := 143) hx hb dX3_readSum_75 (by decide) ?_
              obtain ⟨g52, hg52⟩ : ∃ g, g = (t2.2.1 + (1 : Int32)) := ⟨_, rfl⟩
              rw [← hg52] at hl r31
              exact J31 _ _ _ ls ⟨(Option.some.inj r31).symm, hX, hS, lv_sub hl [1, 0, 2, 3] rfl⟩
            · refine lv_icmp_ge (tgt := 46) hx hb dX3_readSum_39 (by decide) (fun c48 => ?_) (fun c48 => ?_)
              · replace r46 := it c48 r46
                refine lv_iconst (v := 0) hx hb dX3_readSum_46 (by decide) ?_
                exact J46 _ _ _ ls ⟨(Option.some.inj r46).symm, hX, hS, hl⟩
              · replace r46 := ie c48 r46
                refine lv_iconst (v := 1) hx hb dX3_readSum_42 (by decide) ?_
                refine lv_goto (tgt := 47) hx hb dX3_readSum_43 (by decide) ?_
                exact J46 _ _ _ ls ⟨(Option.some.inj r46).symm, hX, hS, hl⟩

def fm_isName (S : mS) (a1 : Int32) : Int32 :=
  (if (gI S 31) = (1 : Int32) then
  (if (gI S 32) = a1 then
  (1 : Int32)
  else
  (0 : Int32))
  else
  (0 : Int32))
theorem bm_isName (S : mS) (a1 : Int32) : fm_isName S a1 = 0 ∨ fm_isName S a1 = 1 := by
  unfold fm_isName
  (repeat' split) <;> first | exact Or.inl rfl | exact Or.inr rfl | (apply bm_in)
set_option maxHeartbeats 4000000 in
set_option maxRecDepth 100000 in
theorem cm_isName (l : Launch) (G : mGh) (hG : mOk G) (S : mS) (a1 : Int32) {r : Int32} (hr : fm_isName S a1 = r) : Met l yX3_isName (ws_ yX3_isName cX3_isName 2 (some .boolean)) ({ frames := 0, cells := 0, slots := 0, locals := 0 } : Room) (mPc G [.int a1] S) (mQi G r S) 0 0 (zA G) := by
  refine m_met cX3_isName (by decide) rfl hG (Nat.le_of_ble_eq_true rfl) (fun p e s m args below meth c C hret hlk ls hX hl => ?_)
  have hx := C.1.1
  have hb := C.1.2.1
  have hown := C.1.2.2.2.1
  have hts := C.1.2.2.2.2
  have hS : va_S (zA G) s.heap s.heap [] := va_S.rf
  have hl : lv_has ls 2 [(0, .ref (zh G)), (1, .int a1)] := hl
  unfold fm_isName at hr
  refine lv_aload_n hx hb dX3_isName_0 rfl (lv_at hl 0 rfl) ?_
  refine m_gi (k := 31) C q1729 rfl hX dX3_isName_1 ?_
  refine lv_iconst (v := 1) hx hb dX3_isName_4 (by decide) ?_
  refine lv_icmp_ne (tgt := 20) hx hb dX3_isName_5 (by decide) (fun c1 => ?_) (fun c1 => ?_)
  · replace hr := ie c1 hr
    refine lv_iconst (v := 0) hx hb dX3_isName_20 (by decide) ?_
    exact m_rz (C := C) hret hlk hX hS (by decide) hr dX3_isName_21
  · replace hr := it c1 hr
    refine lv_aload_n hx hb dX3_isName_8 rfl (lv_at hl 0 rfl) ?_
    refine m_gi (k := 32) C q1730 rfl hX dX3_isName_9 ?_
    refine lv_iload_n hx hb dX3_isName_12 rfl (lv_at hl 1 rfl) ?_
    refine lv_icmp_ne (tgt := 20) hx hb dX3_isName_13 (by decide) (fun c2 => ?_) (fun c2 => ?_)
    · replace hr := ie c2 hr
      refine lv_iconst (v := 0) hx hb dX3_isName_20 (by decide) ?_
      exact m_rz (C := C) hret hlk hX hS (by decide) hr dX3_isName_21
    · replace hr := it c2 hr
      refine lv_iconst (v := 1) hx hb dX3_isName_16 (by decide) ?_
      refine lv_goto (tgt := 21) hx hb dX3_isName_17 (by decide) ?_
      exact m_rz (C := C) hret hlk hX hS (by decide) hr dX3_isName_21

def fm_readOne_k60 (z3 : mS × Int32) (t10 : mS) : Option (mS) :=
  (fm_wants t10 (1 : Int32) (2 : Int32)).bind fun x22 =>
  (fm_next x22).bind fun x23 =>
  (if (gI x23 33) = 0 then
  (fm_readSum x23).bind fun x25 =>
  (fm_code x25 ((-100 : Int32) - (gI x22 32))).bind fun x26 =>
  (rI z3.2 (2 : Int32)).bind fun x27 =>
  (if x27 = (1 : Int32) then
  (fm_code x26 (-133 : Int32)).bind fun x29 =>
  some x29
  else
  some x26)
  else
  some x23)
def fm_readOne_k28  (z3 : mS × Int32) : Option (mS) :=
  (fm_readSum z3.1).bind fun x8 =>
  (((if (fm_isSign x8 (60 : Int32)) = 0 then
  (if (fm_isSign x8 (62 : Int32)) = 0 then
  (if (fm_isSign x8 (61 : Int32)) = 0 then
  (fm_wants x8 (0 : Int32) (2 : Int32)).bind fun x14 =>
  (fm_next x14).bind fun x15 =>
  (if (gI x15 33) = 0 then
  (fm_readSum x15).bind fun x17 =>
  (fm_code x17 ((-100 : Int32) - (gI x14 32))).bind fun x18 =>
  (rI z3.2 (2 : Int32)).bind fun x19 =>
  (if x19 = (1 : Int32) then
  (fm_code x18 (-133 : Int32)).bind fun x21 =>
  some (.inr (some x21))
  else
  some (.inr (some x18)))
  else
  some (.inr (some x15)))
  else
  some (.inl x8))
  else
  some (.inl x8))
  else
  some (.inl x8)) : Option ((mS) ⊕ Option (mS)))).bind (sumK (fun t10 => fm_readOne_k60 z3 t10) (fun z => z))
def fm_readOne_l2  (t1 : mS × Int32) : Option ((mS × Int32) ⊕ (mS × Int32)) :=
  (if (fm_isName t1.1 (6 : Int32)) = 0 then
  some (.inr (t1.1, t1.2))
  else
  (if (gI t1.1 33) = 0 then
  (fm_next t1.1).bind fun x6 =>
  some (.inl (x6, (t1.2 + (1 : Int32))))
  else
  some (.inr (t1.1, t1.2))))
def fm_readOne (S : mS) : Option mS :=
  (loopO fm_readOne_l2 1000000 (S, (0 : Int32))).bind (fun z3 => fm_readOne_k28 z3)
set_option maxHeartbeats 4000000 in
set_option maxRecDepth 100000 in
theorem cm_readOne (l : Launch) (G : mGh) (hG : mOk G) (S : mS)  {S' : mS} (hr : fm_readOne S = some S') : Met l yX3_readOne (ws_ yX3_readOne cX3_readOne 3 none) ({ frames := 6, cells := 0, slots := 0, locals := 130 } : Room) (mPc G [] S) (mQv G S') 0 0 (zA G) := by
  refine m_met cX3_readOne (by decide) rfl hG (Nat.le_of_ble_eq_true rfl) (fun p e s m args below meth c C hret hlk ls hX hl => ?_)
  have hx := C.1.1
  have hb := C.1.2.1
  have hown := C.1.2.2.2.1
  have hts := C.1.2.2.2.2
  have hS : va_S (zA G) s.heap s.heap [] := va_S.rf
  have hl : lv_has ls 3 [(0, .ref (zh G))] := hl
  unfold fm_readOne at hr
  refine lv_iconst (v := 0) hx hb dX3_readOne_0 (by decide) ?_
  refine lv_istore_n (lv' := [(1, .int (0 : Int32)), (0, .ref (zh G))]) hx hb dX3_readOne_1 rfl hl (by decide) rfl (fun ls hl => ?_)
  obtain ⟨z3, e3, hr⟩ := ob hr
  refine m_join (I := fun (_ : Unit) H locs ls => mX G z3.1 H ∧ va_S (zA G) s.heap H locs ∧ lv_has ls 3 [(0, .ref (zh G)), (1, .int z3.2)]) 28 (fun _ => []) (fun _ H locs ls hi => ?_) (fun J1_28 => ?_)
  · obtain ⟨hX, hS, hl⟩ := hi
    unfold fm_readOne_k28 at hr
    refine lv_aload_n hx hb dX3_readOne_28 rfl (lv_at hl 0 rfl) ?_
    obtain ⟨x8, e8, hr⟩ := ob hr
    refine m_cvv (As := []) (rest := []) C hX hS hl.1 (cm_readSum l G hG z3.1  e8) (cwV 0 hts (lw_V q2174 q2176 qs73 q109 q2177) rfl rfl rfl (by decide +kernel) ⟨Nat.le_of_ble_eq_true rfl, Nat.le_of_ble_eq_true rfl⟩) rfl rfl (Nat.le_of_ble_eq_true rfl) dX3_readOne_29 (fun H locs hX hS => ?_)
    refine lv_aload_n hx hb dX3_readOne_32 rfl (lv_at hl 0 rfl) ?_
    refine lv_aload_n hx hb dX3_readOne_33 rfl (lv_at hl 0 rfl) ?_
    refine lv_bipush (v := 60) hx hb dX3_readOne_34 (by decide) ?_
    refine m_cvi (As := [.int (60 : Int32)]) (rest := [.ref (zh G)]) C hX hS hl.1 (cm_isSign l G hG x8 (60 : Int32) rfl) (cwV 1 hts (lw_V q2178 q2180 qs74 q109 q2181) rfl rfl rfl (by decide +kernel) ⟨Nat.le_of_ble_eq_true rfl, Nat.le_of_ble_eq_true rfl⟩) rfl rfl (Nat.le_of_ble_eq_true rfl) dX3_readOne_36 (fun H locs hX hS => ?_)
    obtain ⟨x9, r9, hr⟩ := ob hr
    refine m_join (I := fun (t10 : mS) H locs ls => x9 = .inl t10 ∧ mX G t10 H ∧ va_S (zA G) s.heap H locs ∧ lv_has ls 3 [(0, .ref (zh G)), (1, .int z3.2)]) 60 (fun t10 => [.ref (zh G)]) (fun t10 H locs ls hi => ?_) (fun J9 => ?_)
    · obtain ⟨rfl, hX, hS, hl⟩ := hi
      replace hr := sk_l hr
      unfold fm_readOne_k60 at hr
      refine lv_iconst (v := 1) hx hb dX3_readOne_60 (by decide) ?_
      refine lv_goto (tgt := 65) hx hb dX3_readOne_61 (by decide) ?_
      refine lv_iconst (v := 2) hx hb dX3_readOne_65 (by decide) ?_
      obtain ⟨x22, e22, hr⟩ := ob hr
      refine m_cvv (As := [.int (1 : Int32), .int (2 : Int32)]) (rest := []) C hX hS hl.1 (cm_wants l G hG t10 (1 : Int32) (2 : Int32) e22) (cwV 2 hts (lw_V q2164 q2166 qs71 q109 q2167) rfl rfl rfl (by decide +kernel) ⟨Nat.le_of_ble_eq_true rfl, Nat.le_of_ble_eq_true rfl⟩) rfl rfl (Nat.le_of_ble_eq_true rfl) dX3_readOne_66 (fun H locs hX hS => ?_)
      refine lv_aload_n hx hb dX3_readOne_69 rfl (lv_at hl 0 rfl) ?_
      refine m_gi (k := 32) C q1730 rfl hX dX3_readOne_70 ?_
      refine lv_istore_n (lv' := [(2, .int (gI x22 32)), (0, .ref (zh G)), (1, .int z3.2)]) hx hb dX3_readOne_73 rfl hl (by decide) rfl (fun ls hl => ?_)
      refine lv_aload_n hx hb dX3_readOne_74 rfl (lv_at hl 1 rfl) ?_
      obtain ⟨x23, e23, hr⟩ := ob hr
      refine m_cvv (As := []) (rest := []) C hX hS hl.1 (cm_next l G hG x22  e23) (cwV 0 hts (lw_V q2138 q2140 qs65 q109 q2141) rfl rfl rfl (by decide +kernel) ⟨Nat.le_of_ble_eq_true rfl, Nat.le_of_ble_eq_true rfl⟩) rfl rfl (Nat.le_of_ble_eq_true rfl) dX3_readOne_75 (fun H locs hX hS => ?_)
      refine lv_aload_n hx hb dX3_readOne_78 rfl (lv_at hl 1 rfl) ?_
      refine m_gi (k := 33) C q1731 rfl hX dX3_readOne_79 ?_
      refine lv_if_ne (tgt := 111) hx hb dX3_readOne_82 (by decide) (fun c24 => ?_) (fun c24 => ?_)
      · replace hr := ie c24 hr
        exact m_rvw (C := C) hret hlk hX hS (Option.some.inj hr) dX3_readOne_111
      · replace hr := it c24 hr
        refine lv_aload_n hx hb dX3_readOne_85 rfl (lv_at hl 1 rfl) ?_
        obtain ⟨x25, e25, hr⟩ := ob hr
        refine m_cvv (As := []) (rest := []) C hX hS hl.1 (cm_readSum l G hG x23  e25) (cwV 0 hts (lw_V q2174 q2176 qs73 q109 q2177) rfl rfl rfl (by decide +kernel) ⟨Nat.le_of_ble_eq_true rfl, Nat.le_of_ble_eq_true rfl⟩) rfl rfl (Nat.le_of_ble_eq_true rfl) dX3_readOne_86 (fun H locs hX hS => ?_)
        refine lv_aload_n hx hb dX3_readOne_89 rfl (lv_at hl 1 rfl) ?_
        refine lv_bipush (v := -100) hx hb dX3_readOne_90 (by decide) ?_
        refine lv_iload_n hx hb dX3_readOne_92 rfl (lv_at hl 0 rfl) ?_
        refine lv_isub hx hb dX3_readOne_93 ?_
        obtain ⟨x26, e26, hr⟩ := ob hr
        refine m_cvv (As := [.int ((-100 : Int32) - (gI x22 32))]) (rest := []) C hX hS hl.1 (cm_code l G hG x25 ((-100 : Int32) - (gI x22 32)) e26) (cwV 1 hts (lw_V q2182 q2184 qs75 q109 q2185) rfl rfl rfl (by decide +kernel) ⟨Nat.le_of_ble_eq_true rfl, Nat.le_of_ble_eq_true rfl⟩) rfl rfl (Nat.le_of_ble_eq_true rfl) dX3_readOne_94 (fun H locs hX hS => ?_)
        refine lv_iload_n hx hb dX3_readOne_97 rfl (lv_at hl 2 rfl) ?_
        refine lv_iconst (v := 2) hx hb dX3_readOne_98 (by decide) ?_
        obtain ⟨x27, e27, hr⟩ := ob hr
        refine m_ir C e27 dX3_readOne_99 ?_
        refine lv_iconst (v := 1) hx hb dX3_readOne_100 (by decide) ?_
        refine lv_icmp_ne (tgt := 111) hx hb dX3_readOne_101 (by decide) (fun c28 => ?_) (fun c28 => ?_)
        · replace hr := ie c28 hr
          exact m_rvw (C := C) hret hlk hX hS (Option.some.inj hr) dX3_readOne_111
        · replace hr := it c28 hr
          refine lv_aload_n hx hb dX3_readOne_104 rfl (lv_at hl 1 rfl) ?_
          refine lv_sipush (v := -133) hx hb dX3_readOne_105 (by decide) ?_
          obtain ⟨x29, e29, hr⟩ := ob hr
          refine m_cvv (As := [.int (-133 : Int32)]) (rest := []) C hX hS hl.1 (cm_code l G hG x26 (-133 : Int32) e29) (cwV 1 hts (lw_V q2182 q2184 qs75 q109 q2185) rfl rfl rfl (by decide +kernel) ⟨Nat.le_of_ble_eq_true rfl, Nat.le_of_ble_eq_true rfl⟩) rfl rfl (Nat.le_of_ble_eq_true rfl) dX3_readOne_108 (fun H locs hX hS => ?_)
          exact m_rvw (C := C) hret hlk hX hS (Option.some.inj hr) dX3_readOne_111
    · refine lv_if_ne (tgt := 60) hx hb dX3_readOne_39 (by decide) (fun c11 => ?_) (fun c11 => ?_)
      · replace r9 := ie c11 r9
        exact J9 _ _ _ ls ⟨(Option.some.inj r9).symm, hX, hS, hl⟩
      · replace r9 := it c11 r9
        refine lv_aload_n hx hb dX3_readOne_42 rfl (lv_at hl 0 rfl) ?_
        refine lv_bipush (v := 62) hx hb dX3_readOne_43 (by decide) ?_
        refine m_cvi (As := [.int (62 : Int32)]) (rest := [.ref (zh G)]) C hX hS hl.1 (cm_isSign l G hG x8 (62 : Int32) rfl) (cwV 1 hts (lw_V q2178 q2180 qs74 q109 q2181) rfl rfl rfl (by decide +kernel) ⟨Nat.le_of_ble_eq_true rfl, Nat.le_of_ble_eq_true rfl⟩) rfl rfl (Nat.le_of_ble_eq_true rfl) dX3_readOne_45 (fun H locs hX hS => ?_)
        refine lv_if_ne (tgt := 60) hx hb dX3_readOne_48 (by decide) (fun c12 => ?_) (fun c12 => ?_)
        · replace r9 := ie c12 r9
          exact J9 _ _ _ ls ⟨(Option.some.inj r9).symm, hX, hS, hl⟩
        · replace r9 := it c12 r9
          refine lv_aload_n hx hb dX3_readOne_51 rfl (lv_at hl 0 rfl) ?_
          refine lv_bipush (v := 61) hx hb dX3_readOne_52 (by decide) ?_
          refine m_cvi (As := [.int (61 : Int32)]) (rest := [.ref (zh G)]) C hX hS hl.1 (cm_isSign l G hG x8 (61 : Int32) rfl) (cwV 1 hts (lw_V q2178 q2180 qs74 q109 q2181) rfl rfl rfl (by decide +kernel) ⟨Nat.le_of_ble_eq_true rfl, Nat.le_of_ble_eq_true rfl⟩) rfl rfl (Nat.le_of_ble_eq_true rfl) dX3_readOne_54 (fun H locs hX hS => ?_)
          refine lv_if_eq (tgt := 64) hx hb dX3_readOne_57 (by decide) (fun c13 => ?_) (fun c13 => ?_)
          · replace r9 := it c13 r9
            refine lv_iconst (v := 0) hx hb dX3_readOne_64 (by decide) ?_
            refine lv_iconst (v := 2) hx hb dX3_readOne_65 (by decide) ?_
            obtain ⟨x14, e14, r9⟩ := ob r9
            refine m_cvv (As := [.int (0 : Int32), .int (2 : Int32)]) (rest := []) C hX hS hl.1 (cm_wants l G hG x8 (0 : Int32) (2 : Int32) e14) (cwV 2 hts (lw_V q2164 q2166 qs71 q109 q2167) rfl rfl rfl (by decide +kernel) ⟨Nat.le_of_ble_eq_true rfl, Nat.le_of_ble_eq_true rfl⟩) rfl rfl (Nat.le_of_ble_eq_true rfl) dX3_readOne_66 (fun H locs hX hS => ?_)
            refine lv_aload_n hx hb dX3_readOne_69 rfl (lv_at hl 0 rfl) ?_
            refine m_gi (k := 32) C q1730 rfl hX dX3_readOne_70 ?_
            refine lv_istore_n (lv' := [(2, .int (gI x14 32)), (0, .ref (zh G)), (1, .int z3.2)]) hx hb dX3_readOne_73 rfl hl (by decide) rfl (fun ls hl => ?_)
            refine lv_aload_n hx hb dX3_readOne_74 rfl (lv_at hl 1 rfl) ?_
            obtain ⟨x15, e15, r9⟩ := ob r9
            refine m_cvv (As := []) (rest := []) C hX hS hl.1 (cm_next l G hG x14  e15) (cwV 0 hts (lw_V q2138 q2140 qs65 q109 q2141) rfl rfl rfl (by decide +kernel) ⟨Nat.le_of_ble_eq_true rfl, Nat.le_of_ble_eq_true rfl⟩) rfl rfl (Nat.le_of_ble_eq_true rfl) dX3_readOne_75 (fun H locs hX hS => ?_)
            refine lv_aload_n hx hb dX3_readOne_78 rfl (lv_at hl 1 rfl) ?_
            refine m_gi (k := 33) C q1731 rfl hX dX3_readOne_79 ?_
            refine lv_if_ne (tgt := 111) hx hb dX3_readOne_82 (by decide) (fun c16 => ?_) (fun c16 => ?_)
            · replace r9 := ie c16 r9
              replace r9 := Option.some.inj r9
              subst r9
              replace hr := sk_r hr
              exact m_rvw (C := C) hret hlk hX hS (Option.some.inj hr) dX3_readOne_111
            · replace r9 := it c16 r9
              refine lv_aload_n hx hb dX3_readOne_85 rfl (lv_at hl 1 rfl) ?_
              obtain ⟨x17, e17, r9⟩ := ob r9
              refine m_cvv (As := []) (rest := []) C hX hS hl.1 (cm_readSum l G hG x15  e17) (cwV 0 hts (lw_V q2174 q2176 qs73 q109 q2177) rfl rfl rfl (by decide +kernel) ⟨Nat.le_of_ble_eq_true rfl, Nat.le_of_ble_eq_true rfl⟩) rfl rfl (Nat.le_of_ble_eq_true rfl) dX3_readOne_86 (fun H locs hX hS => ?_)
              refine lv_aload_n hx hb dX3_readOne_89 rfl (lv_at hl 1 rfl) ?_
              refine lv_bipush (v := -100) hx hb dX3_readOne_90 (by decide) ?_
              refine lv_iload_n hx hb dX3_readOne_92 rfl (lv_at hl 0 rfl) ?_
              refine lv_isub hx hb dX3_readOne_93 ?_
              obtain ⟨x18, e18, r9⟩ := ob r9
              refine m_cvv (As := [.int ((-100 : Int32) - (gI x14 32))]) (rest := []) C hX hS hl.1 (cm_code l G hG x17 ((-100 : Int32) - (gI x14 32)) e18) (cwV 1 hts (lw_V q2182 q2184 qs75 q109 q2185) rfl rfl rfl (by decide +kernel) ⟨Nat.le_of_ble_eq_true rfl, Nat.le_of_ble_eq_true rfl⟩) rfl rfl (Nat.le_of_ble_eq_true rfl) dX3_readOne_94 (fun H locs hX hS => ?_)
              refine lv_iload_n hx hb dX3_readOne_97 rfl (lv_at hl 2 rfl) ?_
              refine lv_iconst (v := 2) hx hb dX3_readOne_98 (by decide) ?_
              obtain ⟨x19, e19, r9⟩ := ob r9
              refine m_ir C e19 dX3_readOne_99 ?_
              refine lv_iconst (v := 1) hx hb dX3_readOne_100 (by decide) ?_
              refine lv_icmp_ne (tgt := 111) hx hb dX3_readOne_101 (by decide) (fun c20 => ?_) (fun c20 => ?_)
              · replace r9 := ie c20 r9
                replace r9 := Option.some.inj r9
                subst r9
                replace hr := sk_r hr
                exact m_rvw (C := C) hret hlk hX hS (Option.some.inj hr) dX3_readOne_111
              · replace r9 := it c20 r9
                refine lv_aload_n hx hb dX3_readOne_104 rfl (lv_at hl 1 rfl) ?_
                refine lv_sipush (v := -133) hx hb dX3_readOne_105 (by decide) ?_
                obtain ⟨x21, e21, r9⟩ := ob r9
                refine m_cvv (As := [.int (-133 : Int32)]) (rest := []) C hX hS hl.1 (cm_code l G hG x18 (-133 : Int32) e21) (cwV 1 hts (lw_V q2182 q2184 qs75 q109 q2185) rfl rfl rfl (by decide +kernel) ⟨Nat.le_of_ble_eq_true rfl, Nat.le_of_ble_eq_true rfl⟩) rfl rfl (Nat.le_of_ble_eq_true rfl) dX3_readOne_108 (fun H locs hX hS => ?_)
                replace r9 := Option.some.inj r9
                subst r9
                replace hr := sk_r hr
                exact m_rvw (C := C) hret hlk hX hS (Option.some.inj hr) dX3_readOne_111
          · replace r9 := ie c13 r9
            exact J9 _ _ _ ls ⟨(Option.some.inj r9).symm, hX, hS, hl⟩
  refine m_loop e3 (fun (t1 : mS × Int32) H locs ls => mX G t1.1 H ∧ va_S (zA G) s.heap H locs ∧ lv_has ls 3 [(0, .ref (zh G)), (1, .int t1.2)]) 2 ⟨hX, hS, lv_sub hl [1, 0] rfl⟩ (fun t1 y1 b1 w1 k1 H locs ls hi => ?_)
  obtain ⟨hX, hS, hl⟩ := hi
  unfold fm_readOne_l2 at b1
  refine lv_aload_n hx hb dX3_readOne_2 rfl (lv_at hl 0 rfl) ?_
  refine lv_bipush (v := 6) hx hb dX3_readOne_3 (by decide) ?_
  refine m_cvi (As := [.int (6 : Int32)]) (rest := []) C hX hS hl.1 (cm_isName l G hG t1.1 (6 : Int32) rfl) (cwV 1 hts (lw_V q2201 q2203 qs79 q109 q2204) rfl rfl rfl (by decide +kernel) ⟨Nat.le_of_ble_eq_true rfl, Nat.le_of_ble_eq_true rfl⟩) rfl rfl (Nat.le_of_ble_eq_true rfl) dX3_readOne_5 (fun H locs hX hS => ?_)
  refine lv_if_eq (tgt := 28) hx hb dX3_readOne_8 (by decide) (fun c4 => ?_) (fun c4 => ?_)
  · replace b1 := it c4 b1
    replace b1 := lx b1 w1
    subst b1
    exact J1_28 () _ _ ls ⟨hX, hS, hl⟩
  · replace b1 := ie c4 b1
    refine lv_aload_n hx hb dX3_readOne_11 rfl (lv_at hl 0 rfl) ?_
    refine m_gi (k := 33) C q1731 rfl hX dX3_readOne_12 ?_
    refine lv_if_ne (tgt := 28) hx hb dX3_readOne_15 (by decide) (fun c5 => ?_) (fun c5 => ?_)
    · replace b1 := ie c5 b1
      replace b1 := lx b1 w1
      subst b1
      exact J1_28 () _ _ ls ⟨hX, hS, hl⟩
    · replace b1 := it c5 b1
      refine lv_iinc (v := (t1.2 + (1 : Int32))) (k := 1) (lv' := [(1, .int (t1.2 + (1 : Int32))), (0, .ref (zh G))]) hx hb dX3_readOne_18 hl rfl rfl (by decide) rfl (fun ls hl => ?_)
      refine lv_aload_n hx hb dX3_readOne_21 rfl (lv_at hl 1 rfl) ?_
      obtain ⟨x6, e6, b1⟩ := ob b1
      refine m_cvv (As := []) (rest := []) C hX hS hl.1 (cm_next l G hG t1.1  e6) (cwV 0 hts (lw_V q2138 q2140 qs65 q109 q2141) rfl rfl rfl (by decide +kernel) ⟨Nat.le_of_ble_eq_true rfl, Nat.le_of_ble_eq_true rfl⟩) rfl rfl (Nat.le_of_ble_eq_true rfl) dX3_readOne_22 (fun H locs hX hS => ?_)
      refine lv_goto (tgt := 2) hx hb dX3_readOne_25 (by decide) ?_
      obtain ⟨g7, hg7⟩ : ∃ g, g = (t1.2 + (1 : Int32)) := ⟨_, rfl⟩
      rw [← hg7] at hl b1
      exact k1 _ (Option.some.inj b1).symm _ _ ls ⟨hX, hS, lv_sub hl [1, 0] rfl⟩

def fm_readTest_k47  (x12 : mS) : Option ((mS × Int32 × Int32) ⊕ (mS)) :=
  (if (fm_isName x12 (5 : Int32)) = 0 then
  some (.inl (x12, (fm_isName x12 (5 : Int32)), (fm_isName x12 (5 : Int32))))
  else
  (fm_next x12).bind fun x18 =>
  some (.inl (x18, (fm_isName x12 (5 : Int32)), (fm_isName x12 (5 : Int32)))))
def fm_readTest_k78  (x20 : mS) : Option ((mS × Int32 × Int32) ⊕ (mS)) :=
  (((if (fm_isName x20 (4 : Int32)) = 0 then
  some x20
  else
  (fm_next x20).bind fun x27 =>
  some x27) : Option (mS))).bind (fun x24 =>
  some (.inl (x24, (fm_isName x20 (4 : Int32)), (fm_isName x20 (4 : Int32)))))
def fm_readTest_k67 (t1 : mS × Int32 × Int32) (z8 : mS) : Option ((mS × Int32 × Int32) ⊕ (mS)) :=
  (((if t1.2.1 = 0 then
  some z8
  else
  (fm_code z8 (-224 : Int32)).bind fun x23 =>
  some x23) : Option (mS))).bind (fun x20 => fm_readTest_k78 x20)
def fm_readTest_l20  (t6 : mS × Int32 × Int32) : Option ((mS × Int32 × Int32) ⊕ (mS)) :=
  (if t6.2.2 = 0 then
  some (.inr t6.1)
  else
  (if (gI t6.1 33) = 0 then
  (fm_readOne t6.1).bind fun x11 =>
  (((if t6.2.1 = 0 then
  some x11
  else
  (fm_code x11 (-138 : Int32)).bind fun x15 =>
  some x15) : Option (mS))).bind (fun x12 => fm_readTest_k47 x12)
  else
  some (.inr t6.1)))
def fm_readTest_l4  (t1 : mS × Int32 × Int32) : Option ((mS × Int32 × Int32) ⊕ (mS)) :=
  (if t1.2.2 = 0 then
  some (.inr t1.1)
  else
  (if (gI t1.1 33) = 0 then
  (loopO fm_readTest_l20 1000000 (t1.1, (0 : Int32), (1 : Int32))).bind (fun z8 => fm_readTest_k67 t1 z8)
  else
  some (.inr t1.1)))
def fm_readTest (S : mS) : Option mS :=
  (loopO fm_readTest_l4 1000000 (S, (0 : Int32), (1 : Int32))).bind (fun z3 =>
  some z3)
set_option maxHeartbeats 4000000 in
set_option maxRecDepth 100000 in
theorem cm_readTest (l : Launch) (G : mGh) (hG : mOk G) (S : mS)  {S' : mS} (hr : fm_readTest S = some S') : Met l yX3_readTest (ws_ yX3_readTest cX3_readTest 5 none) ({ frames := 7, cells := 0, slots := 0, locals := 152 } : Room) (mPc G [] S) (mQv G S') 0 0 (zA G) := by
  refine m_met cX3_readTest (by decide) rfl hG (Nat.le_of_ble_eq_true rfl) (fun p e s m args below meth c C hret hlk ls hX hl => ?_)
  have hx := C.1.1
  have hb := C.1.2.1
  have hown := C.1.2.2.2.1
  have hts := C.1.2.2.2.2
  have hS : va_S (zA G) s.heap s.heap [] := va_S.rf
  have hl : lv_has ls 5 [(0, .ref (zh G))] := hl
  unfold fm_readTest at hr
  refine lv_iconst (v := 0) hx hb dX3_readTest_0 (by decide) ?_
  refine lv_istore_n (lv' := [(1, .int (0 : Int32)), (0, .ref (zh G))]) hx hb dX3_readTest_1 rfl hl (by decide) rfl (fun ls hl => ?_)
  refine lv_iconst (v := 1) hx hb dX3_readTest_2 (by decide) ?_
  refine lv_istore_n (lv' := [(2, .int (1 : Int32)), (1, .int (0 : Int32)), (0, .ref (zh G))]) hx hb dX3_readTest_3 rfl hl (by decide) rfl (fun ls hl => ?_)
  obtain ⟨z3, e3, hr⟩ := ob hr
  refine m_join (I := fun (_ : Unit) H locs ls => mX G z3 H ∧ va_S (zA G) s.heap H locs ∧ lv_has ls 5 []) 97 (fun _ => []) (fun _ H locs ls hi => ?_) (fun J1_97 => ?_)
  · obtain ⟨hX, hS, hl⟩ := hi
    exact m_rvw (C := C) hret hlk hX hS (Option.some.inj hr) dX3_readTest_97
  refine m_loop e3 (fun (t1 : mS × Int32 × Int32) H locs ls => mX G t1.1 H ∧ va_S (zA G) s.heap H locs ∧ lv_has ls 5 [(0, .ref (zh G)), (1, .int t1.2.1), (2, .int t1.2.2)]) 4 ⟨hX, hS, lv_sub hl [2, 1, 0] rfl⟩ (fun t1 y1 b1 w1 k1 H locs ls hi => ?_)
  obtain ⟨hX, hS, hl⟩ := hi
  unfold fm_readTest_l4 at b1
  refine lv_iload_n hx hb dX3_readTest_4 rfl (lv_at hl 2 rfl) ?_
  refine lv_if_eq (tgt := 97) hx hb dX3_readTest_5 (by decide) (fun c4 => ?_) (fun c4 => ?_)
  · replace b1 := it c4 b1
    replace b1 := lx b1 w1
    subst b1
    exact J1_97 () _ _ ls ⟨hX, hS, lv_sub hl [] rfl⟩
  · replace b1 := ie c4 b1
    refine lv_aload_n hx hb dX3_readTest_8 rfl (lv_at hl 0 rfl) ?_
    refine m_gi (k := 33) C q1731 rfl hX dX3_readTest_9 ?_
    refine lv_if_ne (tgt := 97) hx hb dX3_readTest_12 (by decide) (fun c5 => ?_) (fun c5 => ?_)
    · replace b1 := ie c5 b1
      replace b1 := lx b1 w1
      subst b1
      exact J1_97 () _ _ ls ⟨hX, hS, lv_sub hl [] rfl⟩
    · replace b1 := it c5 b1
      refine lv_iconst (v := 0) hx hb dX3_readTest_15 (by decide) ?_
      refine lv_istore_n (lv' := [(3, .int (0 : Int32)), (0, .ref (zh G)), (1, .int t1.2.1), (2, .int t1.2.2)]) hx hb dX3_readTest_16 rfl hl (by decide) rfl (fun ls hl => ?_)
      refine lv_iconst (v := 1) hx hb dX3_readTest_17 (by decide) ?_
      refine lv_istore (lv' := [(4, .int (1 : Int32)), (3, .int (0 : Int32)), (0, .ref (zh G)), (1, .int t1.2.1), (2, .int t1.2.2)]) hx hb dX3_readTest_18 hl (by decide) rfl (fun ls hl => ?_)
      obtain ⟨z8, e8, b1⟩ := ob b1
      refine m_join (I := fun (_ : Unit) H locs ls => mX G z8 H ∧ va_S (zA G) s.heap H locs ∧ lv_has ls 5 [(0, .ref (zh G)), (1, .int t1.2.1)]) 67 (fun _ => []) (fun _ H locs ls hi => ?_) (fun J6_67 => ?_)
      · obtain ⟨hX, hS, hl⟩ := hi
        unfold fm_readTest_k67 at b1
        refine lv_iload_n hx hb dX3_readTest_67 rfl (lv_at hl 1 rfl) ?_
        obtain ⟨x20, r20, b1⟩ := ob b1
        refine m_join (I := fun (t21 : mS) H locs ls => x20 = t21 ∧ mX G t21 H ∧ va_S (zA G) s.heap H locs ∧ lv_has ls 5 [(0, .ref (zh G))]) 78 (fun t21 => []) (fun t21 H locs ls hi => ?_) (fun J20 => ?_)
        · obtain ⟨rfl, hX, hS, hl⟩ := hi
          unfold fm_readTest_k78 at b1
          refine lv_aload_n hx hb dX3_readTest_78 rfl (lv_at hl 0 rfl) ?_
          refine lv_iconst (v := 4) hx hb dX3_readTest_79 (by decide) ?_
          refine m_cvi (As := [.int (4 : Int32)]) (rest := []) C hX hS hl.1 (cm_isName l G hG x20 (4 : Int32) rfl) (cwV 1 hts (lw_V q2201 q2203 qs79 q109 q2204) rfl rfl rfl (by decide +kernel) ⟨Nat.le_of_ble_eq_true rfl, Nat.le_of_ble_eq_true rfl⟩) rfl rfl (Nat.le_of_ble_eq_true rfl) dX3_readTest_80 (fun H locs hX hS => ?_)
          refine lv_istore_n (lv' := [(1, .int (fm_isName x20 (4 : Int32))), (0, .ref (zh G))]) hx hb dX3_readTest_83 rfl hl (by decide) rfl (fun ls hl => ?_)
          refine lv_iload_n hx hb dX3_readTest_84 rfl (lv_at hl 0 rfl) ?_
          refine lv_istore_n (lv' := [(2, .int (fm_isName x20 (4 : Int32))), (1, .int (fm_isName x20 (4 : Int32))), (0, .ref (zh G))]) hx hb dX3_readTest_85 rfl hl (by decide) rfl (fun ls hl => ?_)
          refine lv_iload_n hx hb dX3_readTest_86 rfl (lv_at hl 1 rfl) ?_
          obtain ⟨x24, r24, b1⟩ := ob b1
          refine m_join (I := fun (t25 : mS) H locs ls => x24 = t25 ∧ mX G t25 H ∧ va_S (zA G) s.heap H locs ∧ lv_has ls 5 [(0, .ref (zh G)), (1, .int (fm_isName x20 (4 : Int32))), (2, .int (fm_isName x20 (4 : Int32)))]) 94 (fun t25 => []) (fun t25 H locs ls hi => ?_) (fun J24 => ?_)
          · obtain ⟨rfl, hX, hS, hl⟩ := hi
            refine lv_goto (tgt := 4) hx hb dX3_readTest_94 (by decide) ?_
            obtain ⟨g28, hg28⟩ : ∃ g, g = (fm_isName x20 (4 : Int32)) := ⟨_, rfl⟩
            rw [← hg28] at hl b1
            exact k1 _ (Option.some.inj b1).symm _ _ ls ⟨hX, hS, hl⟩
          · refine lv_if_eq (tgt := 94) hx hb dX3_readTest_87 (by decide) (fun c26 => ?_) (fun c26 => ?_)
            · replace r24 := it c26 r24
              exact J24 _ _ _ ls ⟨(Option.some.inj r24).symm, hX, hS, lv_sub hl [2, 1, 0] rfl⟩
            · replace r24 := ie c26 r24
              refine lv_aload_n hx hb dX3_readTest_90 rfl (lv_at hl 2 rfl) ?_
              obtain ⟨x27, e27, r24⟩ := ob r24
              refine m_cvv (As := []) (rest := []) C hX hS hl.1 (cm_next l G hG x20  e27) (cwV 0 hts (lw_V q2138 q2140 qs65 q109 q2141) rfl rfl rfl (by decide +kernel) ⟨Nat.le_of_ble_eq_true rfl, Nat.le_of_ble_eq_true rfl⟩) rfl rfl (Nat.le_of_ble_eq_true rfl) dX3_readTest_91 (fun H locs hX hS => ?_)
              exact J24 _ _ _ ls ⟨(Option.some.inj r24).symm, hX, hS, lv_sub hl [2, 1, 0] rfl⟩
        · refine lv_if_eq (tgt := 78) hx hb dX3_readTest_68 (by decide) (fun c22 => ?_) (fun c22 => ?_)
          · replace r20 := it c22 r20
            exact J20 _ _ _ ls ⟨(Option.some.inj r20).symm, hX, hS, lv_sub hl [0] rfl⟩
          · replace r20 := ie c22 r20
            refine lv_aload_n hx hb dX3_readTest_71 rfl (lv_at hl 0 rfl) ?_
            refine lv_sipush (v := -224) hx hb dX3_readTest_72 (by decide) ?_
            obtain ⟨x23, e23, r20⟩ := ob r20
            refine m_cvv (As := [.int (-224 : Int32)]) (rest := []) C hX hS hl.1 (cm_code l G hG z8 (-224 : Int32) e23) (cwV 1 hts (lw_V q2182 q2184 qs75 q109 q2185) rfl rfl rfl (by decide +kernel) ⟨Nat.le_of_ble_eq_true rfl, Nat.le_of_ble_eq_true rfl⟩) rfl rfl (Nat.le_of_ble_eq_true rfl) dX3_readTest_75 (fun H locs hX hS => ?_)
            exact J20 _ _ _ ls ⟨(Option.some.inj r20).symm, hX, hS, lv_sub hl [0] rfl⟩
      refine m_loop e8 (fun (t6 : mS × Int32 × Int32) H locs ls => mX G t6.1 H ∧ va_S (zA G) s.heap H locs ∧ lv_has ls 5 [(0, .ref (zh G)), (1, .int t1.2.1), (3, .int t6.2.1), (4, .int t6.2.2)]) 20 ⟨hX, hS, lv_sub hl [2, 3, 1, 0] rfl⟩ (fun t6 y6 b6 w6 k6 H locs ls hi => ?_)
      obtain ⟨hX, hS, hl⟩ := hi
      unfold fm_readTest_l20 at b6
      refine lv_iload hx hb dX3_readTest_20 (lv_at hl 3 rfl) ?_
      refine lv_if_eq (tgt := 67) hx hb dX3_readTest_22 (by decide) (fun c9 => ?_) (fun c9 => ?_)
      · replace b6 := it c9 b6
        replace b6 := lx b6 w6
        subst b6
        exact J6_67 () _ _ ls ⟨hX, hS, lv_sub hl [0, 1] rfl⟩
      · replace b6 := ie c9 b6
        refine lv_aload_n hx hb dX3_readTest_25 rfl (lv_at hl 0 rfl) ?_
        refine m_gi (k := 33) C q1731 rfl hX dX3_readTest_26 ?_
        refine lv_if_ne (tgt := 67) hx hb dX3_readTest_29 (by decide) (fun c10 => ?_) (fun c10 => ?_)
        · replace b6 := ie c10 b6
          replace b6 := lx b6 w6
          subst b6
          exact J6_67 () _ _ ls ⟨hX, hS, lv_sub hl [0, 1] rfl⟩
        · replace b6 := it c10 b6
          refine lv_aload_n hx hb dX3_readTest_32 rfl (lv_at hl 0 rfl) ?_
          obtain ⟨x11, e11, b6⟩ := ob b6
          refine m_cvv (As := []) (rest := []) C hX hS hl.1 (cm_readOne l G hG t6.1  e11) (cwV 0 hts (lw_V q2197 q2199 qs78 q109 q2200) rfl rfl rfl (by decide +kernel) ⟨Nat.le_of_ble_eq_true rfl, Nat.le_of_ble_eq_true rfl⟩) rfl rfl (Nat.le_of_ble_eq_true rfl) dX3_readTest_33 (fun H locs hX hS => ?_)
          refine lv_iload_n hx hb dX3_readTest_36 rfl (lv_at hl 2 rfl) ?_
          obtain ⟨x12, r12, b6⟩ := ob b6
          refine m_join (I := fun (t13 : mS) H locs ls => x12 = t13 ∧ mX G t13 H ∧ va_S (zA G) s.heap H locs ∧ lv_has ls 5 [(0, .ref (zh G)), (1, .int t1.2.1)]) 47 (fun t13 => []) (fun t13 H locs ls hi => ?_) (fun J12 => ?_)
          · obtain ⟨rfl, hX, hS, hl⟩ := hi
            unfold fm_readTest_k47 at b6
            refine lv_aload_n hx hb dX3_readTest_47 rfl (lv_at hl 0 rfl) ?_
            refine lv_iconst (v := 5) hx hb dX3_readTest_48 (by decide) ?_
            refine m_cvi (As := [.int (5 : Int32)]) (rest := []) C hX hS hl.1 (cm_isName l G hG x12 (5 : Int32) rfl) (cwV 1 hts (lw_V q2201 q2203 qs79 q109 q2204) rfl rfl rfl (by decide +kernel) ⟨Nat.le_of_ble_eq_true rfl, Nat.le_of_ble_eq_true rfl⟩) rfl rfl (Nat.le_of_ble_eq_true rfl) dX3_readTest_49 (fun H locs hX hS => ?_)
            refine lv_istore_n (lv' := [(3, .int (fm_isName x12 (5 : Int32))), (0, .ref (zh G)), (1, .int t1.2.1)]) hx hb dX3_readTest_52 rfl hl (by decide) rfl (fun ls hl => ?_)
            refine lv_iload_n hx hb dX3_readTest_53 rfl (lv_at hl 0 rfl) ?_
            refine lv_istore (lv' := [(4, .int (fm_isName x12 (5 : Int32))), (3, .int (fm_isName x12 (5 : Int32))), (0, .ref (zh G)), (1, .int t1.2.1)]) hx hb dX3_readTest_54 hl (by decide) rfl (fun ls hl => ?_)
            refine lv_iload_n hx hb dX3_readTest_56 rfl (lv_at hl 1 rfl) ?_
            refine lv_if_eq (tgt := 20) hx hb dX3_readTest_57 (by decide) (fun c16 => ?_) (fun c16 => ?_)
            · replace b6 := it c16 b6
              obtain ⟨g17, hg17⟩ : ∃ g, g = (fm_isName x12 (5 : Int32)) := ⟨_, rfl⟩
              rw [← hg17] at hl b6
              exact k6 _ (Option.some.inj b6).symm _ _ ls ⟨hX, hS, lv_sub hl [2, 3, 1, 0] rfl⟩
            · replace b6 := ie c16 b6
              refine lv_aload_n hx hb dX3_readTest_60 rfl (lv_at hl 2 rfl) ?_
              obtain ⟨x18, e18, b6⟩ := ob b6
              refine m_cvv (As := []) (rest := []) C hX hS hl.1 (cm_next l G hG x12  e18) (cwV 0 hts (lw_V q2138 q2140 qs65 q109 q2141) rfl rfl rfl (by decide +kernel) ⟨Nat.le_of_ble_eq_true rfl, Nat.le_of_ble_eq_true rfl⟩) rfl rfl (Nat.le_of_ble_eq_true rfl) dX3_readTest_61 (fun H locs hX hS => ?_)
              refine lv_goto (tgt := 20) hx hb dX3_readTest_64 (by decide) ?_
              obtain ⟨g19, hg19⟩ : ∃ g, g = (fm_isName x12 (5 : Int32)) := ⟨_, rfl⟩
              rw [← hg19] at hl b6
              exact k6 _ (Option.some.inj b6).symm _ _ ls ⟨hX, hS, lv_sub hl [2, 3, 1, 0] rfl⟩
          · refine lv_if_eq (tgt := 47) hx hb dX3_readTest_37 (by decide) (fun c14 => ?_) (fun c14 => ?_)
            · replace r12 := it c14 r12
              exact J12 _ _ _ ls ⟨(Option.some.inj r12).symm, hX, hS, lv_sub hl [0, 1] rfl⟩
            · replace r12 := ie c14 r12
              refine lv_aload_n hx hb dX3_readTest_40 rfl (lv_at hl 0 rfl) ?_
              refine lv_sipush (v := -138) hx hb dX3_readTest_41 (by decide) ?_
              obtain ⟨x15, e15, r12⟩ := ob r12
              refine m_cvv (As := [.int (-138 : Int32)]) (rest := []) C hX hS hl.1 (cm_code l G hG x11 (-138 : Int32) e15) (cwV 1 hts (lw_V q2182 q2184 qs75 q109 q2185) rfl rfl rfl (by decide +kernel) ⟨Nat.le_of_ble_eq_true rfl, Nat.le_of_ble_eq_true rfl⟩) rfl rfl (Nat.le_of_ble_eq_true rfl) dX3_readTest_44 (fun H locs hX hS => ?_)
              exact J12 _ _ _ ls ⟨(Option.some.inj r12).symm, hX, hS, lv_sub hl [0, 1] rfl⟩

def fm_readLine_k102  (t15 : mS) : Option ((mS) ⊕ Option (mS)) :=
  (fm_readSum t15).bind fun x23 =>
  (fm_wants x23 (fm_isSign x23 (59 : Int32)) (2 : Int32)).bind fun x24 =>
  (fm_next x24).bind fun x25 =>
  (pI x25 39 ((gI x25 39) + (1 : Int32))).bind fun x26 =>
  (tI x26 41 (gI x26 39) (gI x26 43)).bind fun x27 =>
  some (.inr (some x27))
def fm_readLine_k48 (x5 : mS) (x6 : Int32) : Option ((mS) ⊕ Option (mS)) :=
  (fm_wants x5 x6 (4 : Int32)).bind fun x9 =>
  (if (gI x9 33) ≤ 0 then
  (tI x9 40 (gI x9 39) (gI x9 32)).bind fun x11 =>
  (tI x11 41 (gI x11 39) (gI x11 43)).bind fun x12 =>
  (fm_next x12).bind fun x13 =>
  (((if (gI x9 32) = (1 : Int32) then
  some (.inl x13)
  else
  (if (gI x9 32) = (2 : Int32) then
  some (.inl x13)
  else
  (fm_readTest x13).bind fun x18 =>
  (fm_wants x18 (fm_isSign x18 (59 : Int32)) (2 : Int32)).bind fun x19 =>
  (fm_next x19).bind fun x20 =>
  (pI x20 39 ((gI x20 39) + (1 : Int32))).bind fun x21 =>
  (tI x21 41 (gI x21 39) (gI x21 43)).bind fun x22 =>
  some (.inr (some (.inr (some x22)))))) : Option ((mS) ⊕ Option ((mS) ⊕ Option (mS))))).bind (sumK (fun t15 => fm_readLine_k102 t15) (fun z => z))
  else
  some (.inr (some x9)))
def fm_readLine_k102_  (t38 : mS) : Option (mS) :=
  (fm_readSum t38).bind fun x46 =>
  (fm_wants x46 (fm_isSign x46 (59 : Int32)) (2 : Int32)).bind fun x47 =>
  (fm_next x47).bind fun x48 =>
  (pI x48 39 ((gI x48 39) + (1 : Int32))).bind fun x49 =>
  (tI x49 41 (gI x49 39) (gI x49 43)).bind fun x50 =>
  some x50
def fm_readLine_k48_ (x28 : mS) (x29 : Int32) : Option (mS) :=
  (fm_wants x28 x29 (4 : Int32)).bind fun x32 =>
  (if (gI x32 33) ≤ 0 then
  (tI x32 40 (gI x32 39) (gI x32 32)).bind fun x34 =>
  (tI x34 41 (gI x34 39) (gI x34 43)).bind fun x35 =>
  (fm_next x35).bind fun x36 =>
  (((if (gI x32 32) = (1 : Int32) then
  some (.inl x36)
  else
  (if (gI x32 32) = (2 : Int32) then
  some (.inl x36)
  else
  (fm_readTest x36).bind fun x41 =>
  (fm_wants x41 (fm_isSign x41 (59 : Int32)) (2 : Int32)).bind fun x42 =>
  (fm_next x42).bind fun x43 =>
  (pI x43 39 ((gI x43 39) + (1 : Int32))).bind fun x44 =>
  (tI x44 41 (gI x44 39) (gI x44 43)).bind fun x45 =>
  some (.inr (some x45)))) : Option ((mS) ⊕ Option (mS)))).bind (sumK (fun t38 => fm_readLine_k102_ t38) (fun z => z))
  else
  some x32)
def fm_readLine_k28  (t2 : mS) : Option (mS) :=
  (fm_wants t2 (0 : Int32) (2 : Int32)).bind fun x28 =>
  (((if (12 : Int32) ≤ (gI x28 39) then
  some (0 : Int32)
  else
  some (1 : Int32)) : Option (Int32))).bind (fun x29 => fm_readLine_k48_ x28 x29)
def fm_readLine (S : mS) : Option mS :=
  (((if (gI S 31) = (1 : Int32) then
  (if (fm_in ((gI S 32).toInt64) (0 : Int64) (3 : Int64)) = 0 then
  some (.inl S)
  else
  (fm_wants S (1 : Int32) (2 : Int32)).bind fun x5 =>
  (((if (12 : Int32) ≤ (gI x5 39) then
  some (0 : Int32)
  else
  some (1 : Int32)) : Option (Int32))).bind (fun x6 => fm_readLine_k48 x5 x6))
  else
  some (.inl S)) : Option ((mS) ⊕ Option (mS)))).bind (sumK (fun t2 => fm_readLine_k28 t2) (fun z => z))
set_option maxHeartbeats 4000000 in
set_option maxRecDepth 100000 in
theorem cm_readLine (l : Launch) (G : mGh) (hG : mOk G) (S : mS)  {S' : mS} (hr : fm_readLine S = some S') : Met l yX3_readLine (ws_ yX3_readLine cX3_readLine 2 none) ({ frames := 8, cells := 0, slots := 0, locals := 176 } : Room) (mPc G [] S) (mQv G S') 0 0 (zA G) := by
  refine m_met cX3_readLine (by decide) rfl hG (Nat.le_of_ble_eq_true rfl) (fun p e s m args below meth c C hret hlk ls hX hl => ?_)
  have hx := C.1.1
  have hb := C.1.2.1
  have hown := C.1.2.2.2.1
  have hts := C.1.2.2.2.2
  have hS : va_S (zA G) s.heap s.heap [] := va_S.rf
  have hl : lv_has ls 2 [(0, .ref (zh G))] := hl
  unfold fm_readLine at hr
  refine lv_aload_n hx hb dX3_readLine_0 rfl (lv_at hl 0 rfl) ?_
  refine lv_aload_n hx hb dX3_readLine_1 rfl (lv_at hl 0 rfl) ?_
  refine m_gi (k := 31) C q1729 rfl hX dX3_readLine_2 ?_
  refine lv_iconst (v := 1) hx hb dX3_readLine_5 (by decide) ?_
  obtain ⟨x1, r1, hr⟩ := ob hr
  refine m_join (I := fun (t2 : mS) H locs ls => x1 = .inl t2 ∧ mX G t2 H ∧ va_S (zA G) s.heap H locs ∧ lv_has ls 2 [(0, .ref (zh G))]) 28 (fun t2 => [.ref (zh G)]) (fun t2 H locs ls hi => ?_) (fun J1 => ?_)
  · obtain ⟨rfl, hX, hS, hl⟩ := hi
    replace hr := sk_l hr
    unfold fm_readLine_k28 at hr
    refine lv_iconst (v := 0) hx hb dX3_readLine_28 (by decide) ?_
    refine lv_iconst (v := 2) hx hb dX3_readLine_29 (by decide) ?_
    obtain ⟨x28, e28, hr⟩ := ob hr
    refine m_cvv (As := [.int (0 : Int32), .int (2 : Int32)]) (rest := []) C hX hS hl.1 (cm_wants l G hG t2 (0 : Int32) (2 : Int32) e28) (cwV 2 hts (lw_V q2164 q2166 qs71 q109 q2167) rfl rfl rfl (by decide +kernel) ⟨Nat.le_of_ble_eq_true rfl, Nat.le_of_ble_eq_true rfl⟩) rfl rfl (Nat.le_of_ble_eq_true rfl) dX3_readLine_30 (fun H locs hX hS => ?_)
    refine lv_aload_n hx hb dX3_readLine_33 rfl (lv_at hl 0 rfl) ?_
    refine lv_aload_n hx hb dX3_readLine_34 rfl (lv_at hl 0 rfl) ?_
    refine m_gi (k := 39) C q1737 rfl hX dX3_readLine_35 ?_
    refine lv_bipush (v := 12) hx hb dX3_readLine_38 (by decide) ?_
    obtain ⟨x29, r29, hr⟩ := ob hr
    refine m_join (I := fun (t30 : Int32) H locs ls => x29 = t30 ∧ mX G x28 H ∧ va_S (zA G) s.heap H locs ∧ lv_has ls 2 [(0, .ref (zh G))]) 48 (fun t30 => [.int t30, .ref (zh G)]) (fun t30 H locs ls hi => ?_) (fun J29 => ?_)
    · obtain ⟨rfl, hX, hS, hl⟩ := hi
      unfold fm_readLine_k48_ at hr
      refine lv_iconst (v := 4) hx hb dX3_readLine_48 (by decide) ?_
      obtain ⟨x32, e32, hr⟩ := ob hr
      refine m_cvv (As := [.int x29, .int (4 : Int32)]) (rest := []) C hX hS hl.1 (cm_wants l G hG x28 x29 (4 : Int32) e32) (cwV 2 hts (lw_V q2164 q2166 qs71 q109 q2167) rfl rfl rfl (by decide +kernel) ⟨Nat.le_of_ble_eq_true rfl, Nat.le_of_ble_eq_true rfl⟩) rfl rfl (Nat.le_of_ble_eq_true rfl) dX3_readLine_49 (fun H locs hX hS => ?_)
      refine lv_aload_n hx hb dX3_readLine_52 rfl (lv_at hl 0 rfl) ?_
      refine m_gi (k := 33) C q1731 rfl hX dX3_readLine_53 ?_
      refine lv_if_le (tgt := 60) hx hb dX3_readLine_56 (by decide) (fun c33 => ?_) (fun c33 => ?_)
      · replace hr := it c33 hr
        refine lv_aload_n hx hb dX3_readLine_60 rfl (lv_at hl 0 rfl) ?_
        refine m_gi (k := 32) C q1730 rfl hX dX3_readLine_61 ?_
        refine lv_istore_n (lv' := [(1, .int (gI x32 32)), (0, .ref (zh G))]) hx hb dX3_readLine_64 rfl hl (by decide) rfl (fun ls hl => ?_)
        refine lv_aload_n hx hb dX3_readLine_65 rfl (lv_at hl 1 rfl) ?_
        refine m_ga (k := 40) (d := 0) C q1738 rfl (by decide) hX dX3_readLine_66 ?_
        refine lv_aload_n hx hb dX3_readLine_69 rfl (lv_at hl 1 rfl) ?_
        refine m_gi (k := 39) C q1737 rfl hX dX3_readLine_70 ?_
        refine lv_iload_n hx hb dX3_readLine_73 rfl (lv_at hl 0 rfl) ?_
        obtain ⟨x34, e34, hr⟩ := ob hr
        refine m_is (k := 40) C rfl hX hS e34 dX3_readLine_74 (fun H locs hX hS => ?_)
        refine lv_aload_n hx hb dX3_readLine_75 rfl (lv_at hl 1 rfl) ?_
        refine m_ga (k := 41) (d := 0) C q1739 rfl (by decide) hX dX3_readLine_76 ?_
        refine lv_aload_n hx hb dX3_readLine_79 rfl (lv_at hl 1 rfl) ?_
        refine m_gi (k := 39) C q1737 rfl hX dX3_readLine_80 ?_
        refine lv_aload_n hx hb dX3_readLine_83 rfl (lv_at hl 1 rfl) ?_
        refine m_gi (k := 43) C q1741 rfl hX dX3_readLine_84 ?_
        obtain ⟨x35, e35, hr⟩ := ob hr
        refine m_is (k := 41) C rfl hX hS e35 dX3_readLine_87 (fun H locs hX hS => ?_)
        refine lv_aload_n hx hb dX3_readLine_88 rfl (lv_at hl 1 rfl) ?_
        obtain ⟨x36, e36, hr⟩ := ob hr
        refine m_cvv (As := []) (rest := []) C hX hS hl.1 (cm_next l G hG x35  e36) (cwV 0 hts (lw_V q2138 q2140 qs65 q109 q2141) rfl rfl rfl (by decide +kernel) ⟨Nat.le_of_ble_eq_true rfl, Nat.le_of_ble_eq_true rfl⟩) rfl rfl (Nat.le_of_ble_eq_true rfl) dX3_readLine_89 (fun H locs hX hS => ?_)
        refine lv_iload_n hx hb dX3_readLine_92 rfl (lv_at hl 0 rfl) ?_
        refine lv_iconst (v := 1) hx hb dX3_readLine_93 (by decide) ?_
        obtain ⟨x37, r37, hr⟩ := ob hr
        refine m_join (I := fun (t38 : mS) H locs ls => x37 = .inl t38 ∧ mX G t38 H ∧ va_S (zA G) s.heap H locs ∧ lv_has ls 2 [(0, .ref (zh G))]) 102 (fun t38 => []) (fun t38 H locs ls hi => ?_) (fun J37 => ?_)
        · obtain ⟨rfl, hX, hS, hl⟩ := hi
          replace hr := sk_l hr
          unfold fm_readLine_k102_ at hr
          refine lv_aload_n hx hb dX3_readLine_102 rfl (lv_at hl 0 rfl) ?_
          obtain ⟨x46, e46, hr⟩ := ob hr
          refine m_cvv (As := []) (rest := []) C hX hS hl.1 (cm_readSum l G hG t38  e46) (cwV 0 hts (lw_V q2174 q2176 qs73 q109 q2177) rfl rfl rfl (by decide +kernel) ⟨Nat.le_of_ble_eq_true rfl, Nat.le_of_ble_eq_true rfl⟩) rfl rfl (Nat.le_of_ble_eq_true rfl) dX3_readLine_103 (fun H locs hX hS => ?_)
          refine lv_goto (tgt := 113) hx hb dX3_readLine_106 (by decide) ?_
          refine lv_aload_n hx hb dX3_readLine_113 rfl (lv_at hl 0 rfl) ?_
          refine lv_aload_n hx hb dX3_readLine_114 rfl (lv_at hl 0 rfl) ?_
          refine lv_bipush (v := 59) hx hb dX3_readLine_115 (by decide) ?_
          refine m_cvi (As := [.int (59 : Int32)]) (rest := [.ref (zh G)]) C hX hS hl.1 (cm_isSign l G hG x46 (59 : Int32) rfl) (cwV 1 hts (lw_V q2178 q2180 qs74 q109 q2181) rfl rfl rfl (by decide +kernel) ⟨Nat.le_of_ble_eq_true rfl, Nat.le_of_ble_eq_true rfl⟩) rfl rfl (Nat.le_of_ble_eq_true rfl) dX3_readLine_117 (fun H locs hX hS => ?_)
          refine lv_iconst (v := 2) hx hb dX3_readLine_120 (by decide) ?_
          obtain ⟨x47, e47, hr⟩ := ob hr
          refine m_cvv (As := [.int (fm_isSign x46 (59 : Int32)), .int (2 : Int32)]) (rest := []) C hX hS hl.1 (cm_wants l G hG x46 (fm_isSign x46 (59 : Int32)) (2 : Int32) e47) (cwV 2 hts (lw_V q2164 q2166 qs71 q109 q2167) rfl rfl rfl (by decide +kernel) ⟨Nat.le_of_ble_eq_true rfl, Nat.le_of_ble_eq_true rfl⟩) rfl rfl (Nat.le_of_ble_eq_true rfl) dX3_readLine_121 (fun H locs hX hS => ?_)
          refine lv_aload_n hx hb dX3_readLine_124 rfl (lv_at hl 0 rfl) ?_
          obtain ⟨x48, e48, hr⟩ := ob hr
          refine m_cvv (As := []) (rest := []) C hX hS hl.1 (cm_next l G hG x47  e48) (cwV 0 hts (lw_V q2138 q2140 qs65 q109 q2141) rfl rfl rfl (by decide +kernel) ⟨Nat.le_of_ble_eq_true rfl, Nat.le_of_ble_eq_true rfl⟩) rfl rfl (Nat.le_of_ble_eq_true rfl) dX3_readLine_125 (fun H locs hX hS => ?_)
          refine lv_aload_n hx hb dX3_readLine_128 rfl (lv_at hl 0 rfl) ?_
          refine lv_dup hx hb dX3_readLine_129 rfl ?_
          refine m_gi (k := 39) C q1737 rfl hX dX3_readLine_130 ?_
          refine lv_iconst (v := 1) hx hb dX3_readLine_133 (by decide) ?_
          refine lv_iadd hx hb dX3_readLine_134 ?_
          obtain ⟨x49, e49, hr⟩ := ob hr
          refine m_pi (k := 39) C q1737 rfl hX hS e49 dX3_readLine_135 (fun H locs hX hS => ?_)
          refine lv_aload_n hx hb dX3_readLine_138 rfl (lv_at hl 0 rfl) ?_
          refine m_ga (k := 41) (d := 0) C q1739 rfl (by decide) hX dX3_readLine_139 ?_
          refine lv_aload_n hx hb dX3_readLine_142 rfl (lv_at hl 0 rfl) ?_
          refine m_gi (k := 39) C q1737 rfl hX dX3_readLine_143 ?_
          refine lv_aload_n hx hb dX3_readLine_146 rfl (lv_at hl 0 rfl) ?_
          refine m_gi (k := 43) C q1741 rfl hX dX3_readLine_147 ?_
          obtain ⟨x50, e50, hr⟩ := ob hr
          refine m_is (k := 41) C rfl hX hS e50 dX3_readLine_150 (fun H locs hX hS => ?_)
          exact m_rvw (C := C) hret hlk hX hS (Option.some.inj hr) dX3_readLine_151
        · refine lv_icmp_eq (tgt := 102) hx hb dX3_readLine_94 (by decide) (fun c39 => ?_) (fun c39 => ?_)
          · replace r37 := it c39 r37
            exact J37 _ _ _ ls ⟨(Option.some.inj r37).symm, hX, hS, lv_sub hl [1] rfl⟩
          · replace r37 := ie c39 r37
            refine lv_iload_n hx hb dX3_readLine_97 rfl (lv_at hl 0 rfl) ?_
            refine lv_iconst (v := 2) hx hb dX3_readLine_98 (by decide) ?_
            refine lv_icmp_ne (tgt := 109) hx hb dX3_readLine_99 (by decide) (fun c40 => ?_) (fun c40 => ?_)
            · replace r37 := ie c40 r37
              refine lv_aload_n hx hb dX3_readLine_109 rfl (lv_at hl 1 rfl) ?_
              obtain ⟨x41, e41, r37⟩ := ob r37
              refine m_cvv (As := []) (rest := []) C hX hS hl.1 (cm_readTest l G hG x36  e41) (cwV 0 hts (lw_V q2193 q2195 qs77 q109 q2196) rfl rfl rfl (by decide +kernel) ⟨Nat.le_of_ble_eq_true rfl, Nat.le_of_ble_eq_true rfl⟩) rfl rfl (Nat.le_of_ble_eq_true rfl) dX3_readLine_110 (fun H locs hX hS => ?_)
              refine lv_aload_n hx hb dX3_readLine_113 rfl (lv_at hl 1 rfl) ?_
              refine lv_aload_n hx hb dX3_readLine_114 rfl (lv_at hl 1 rfl) ?_
              refine lv_bipush (v := 59) hx hb dX3_readLine_115 (by decide) ?_
              refine m_cvi (As := [.int (59 : Int32)]) (rest := [.ref (zh G)]) C hX hS hl.1 (cm_isSign l G hG x41 (59 : Int32) rfl) (cwV 1 hts (lw_V q2178 q2180 qs74 q109 q2181) rfl rfl rfl (by decide +kernel) ⟨Nat.le_of_ble_eq_true rfl, Nat.le_of_ble_eq_true rfl⟩) rfl rfl (Nat.le_of_ble_eq_true rfl) dX3_readLine_117 (fun H locs hX hS => ?_)
              refine lv_iconst (v := 2) hx hb dX3_readLine_120 (by decide) ?_
              obtain ⟨x42, e42, r37⟩ := ob r37
              refine m_cvv (As := [.int (fm_isSign x41 (59 : Int32)), .int (2 : Int32)]) (rest := []) C hX hS hl.1 (cm_wants l G hG x41 (fm_isSign x41 (59 : Int32)) (2 : Int32) e42) (cwV 2 hts (lw_V q2164 q2166 qs71 q109 q2167) rfl rfl rfl (by decide +kernel) ⟨Nat.le_of_ble_eq_true rfl, Nat.le_of_ble_eq_true rfl⟩) rfl rfl (Nat.le_of_ble_eq_true rfl) dX3_readLine_121 (fun H locs hX hS => ?_)
              refine lv_aload_n hx hb dX3_readLine_124 rfl (lv_at hl 1 rfl) ?_
              obtain ⟨x43, e43, r37⟩ := ob r37
              refine m_cvv (As := []) (rest := []) C hX hS hl.1 (cm_next l G hG x42  e43) (cwV 0 hts (lw_V q2138 q2140 qs65 q109 q2141) rfl rfl rfl (by decide +kernel) ⟨Nat.le_of_ble_eq_true rfl, Nat.le_of_ble_eq_true rfl⟩) rfl rfl (Nat.le_of_ble_eq_true rfl) dX3_readLine_125 (fun H locs hX hS => ?_)
              refine lv_aload_n hx hb dX3_readLine_128 rfl (lv_at hl 1 rfl) ?_
              refine lv_dup hx hb dX3_readLine_129 rfl ?_
              refine m_gi (k := 39) C q1737 rfl hX dX3_readLine_130 ?_
              refine lv_iconst (v := 1) hx hb dX3_readLine_133 (by decide) ?_
              refine lv_iadd hx hb dX3_readLine_134 ?_
              obtain ⟨x44, e44, r37⟩ := ob r37
              refine m_pi (k := 39) C q1737 rfl hX hS e44 dX3_readLine_135 (fun H locs hX hS => ?_)
              refine lv_aload_n hx hb dX3_readLine_138 rfl (lv_at hl 1 rfl) ?_
              refine m_ga (k := 41) (d := 0) C q1739 rfl (by decide) hX dX3_readLine_139 ?_
              refine lv_aload_n hx hb dX3_readLine_142 rfl (lv_at hl 1 rfl) ?_
              refine m_gi (k := 39) C q1737 rfl hX dX3_readLine_143 ?_
              refine lv_aload_n hx hb dX3_readLine_146 rfl (lv_at hl 1 rfl) ?_
              refine m_gi (k := 43) C q1741 rfl hX dX3_readLine_147 ?_
              obtain ⟨x45, e45, r37⟩ := ob r37
              refine m_is (k := 41) C rfl hX hS e45 dX3_readLine_150 (fun H locs hX hS => ?_)
              replace r37 := Option.some.inj r37
              subst r37
              replace hr := sk_r hr
              exact m_rvw (C := C) hret hlk hX hS (Option.some.inj hr) dX3_readLine_151
            · replace r37 := it c40 r37
              exact J37 _ _ _ ls ⟨(Option.some.inj r37).symm, hX, hS, lv_sub hl [1] rfl⟩
      · replace hr := ie c33 hr
        exact m_rvw (C := C) hret hlk hX hS (Option.some.inj hr) dX3_readLine_59
    · refine lv_icmp_ge (tgt := 47) hx hb dX3_readLine_40 (by decide) (fun c31 => ?_) (fun c31 => ?_)
      · replace r29 := it c31 r29
        refine lv_iconst (v := 0) hx hb dX3_readLine_47 (by decide) ?_
        exact J29 _ _ _ ls ⟨(Option.some.inj r29).symm, hX, hS, hl⟩
      · replace r29 := ie c31 r29
        refine lv_iconst (v := 1) hx hb dX3_readLine_43 (by decide) ?_
        refine lv_goto (tgt := 48) hx hb dX3_readLine_44 (by decide) ?_
        exact J29 _ _ _ ls ⟨(Option.some.inj r29).symm, hX, hS, hl⟩
  · refine lv_icmp_ne (tgt := 28) hx hb dX3_readLine_6 (by decide) (fun c3 => ?_) (fun c3 => ?_)
    · replace r1 := ie c3 r1
      exact J1 _ _ _ ls ⟨(Option.some.inj r1).symm, hX, hS, hl⟩
    · replace r1 := it c3 r1
      refine lv_aload_n hx hb dX3_readLine_9 rfl (lv_at hl 0 rfl) ?_
      refine m_gi (k := 32) C q1730 rfl hX dX3_readLine_10 ?_
      refine lv_i2l (v := (gI S 32).toInt64) hx hb dX3_readLine_13 rfl ?_
      refine lv_lconst (v := 0) hx hb dX3_readLine_14 (by decide) ?_
      refine lv_ldc2 hx hb hown (hts _ q2036) dX3_readLine_15 ?_
      refine m_csi (As := [.long ((gI S 32).toInt64), .long (0 : Int64), .long (3 : Int64)]) (rest := [.ref (zh G)]) C hX hS hl.1 (cm_in l ((gI S 32).toInt64) (0 : Int64) (3 : Int64) rfl) (va_cwS 3 hts (lw_S q1974 q1975 q109 q1976) rfl rfl rfl (by decide +kernel) ⟨Nat.le_of_ble_eq_true rfl, Nat.le_of_ble_eq_true rfl⟩) rfl rfl (Nat.le_of_ble_eq_true rfl) dX3_readLine_18 (fun H locs hX hS => ?_)
      refine lv_if_eq (tgt := 28) hx hb dX3_readLine_21 (by decide) (fun c4 => ?_) (fun c4 => ?_)
      · replace r1 := it c4 r1
        exact J1 _ _ _ ls ⟨(Option.some.inj r1).symm, hX, hS, hl⟩
      · replace r1 := ie c4 r1
        refine lv_iconst (v := 1) hx hb dX3_readLine_24 (by decide) ?_
        refine lv_goto (tgt := 29) hx hb dX3_readLine_25 (by decide) ?_
        refine lv_iconst (v := 2) hx hb dX3_readLine_29 (by decide) ?_
        obtain ⟨x5, e5, r1⟩ := ob r1
        refine m_cvv (As := [.int (1 : Int32), .int (2 : Int32)]) (rest := []) C hX hS hl.1 (cm_wants l G hG S (1 : Int32) (2 : Int32) e5) (cwV 2 hts (lw_V q2164 q2166 qs71 q109 q2167) rfl rfl rfl (by decide +kernel) ⟨Nat.le_of_ble_eq_true rfl, Nat.le_of_ble_eq_true rfl⟩) rfl rfl (Nat.le_of_ble_eq_true rfl) dX3_readLine_30 (fun H locs hX hS => ?_)
        refine lv_aload_n hx hb dX3_readLine_33 rfl (lv_at hl 0 rfl) ?_
        refine lv_aload_n hx hb dX3_readLine_34 rfl (lv_at hl 0 rfl) ?_
        refine m_gi (k := 39) C q1737 rfl hX dX3_readLine_35 ?_
        refine lv_bipush (v := 12) hx hb dX3_readLine_38 (by decide) ?_
        obtain ⟨x6, r6, r1⟩ := ob r1
        refine m_join (I := fun (t7 : Int32) H locs ls => x6 = t7 ∧ mX G x5 H ∧ va_S (zA G) s.heap H locs ∧ lv_has ls 2 [(0, .ref (zh G))]) 48 (fun t7 => [.int t7, .ref (zh G)]) (fun t7 H locs ls hi => ?_) (fun J6 => ?_)
        · obtain ⟨rfl, hX, hS, hl⟩ := hi
          unfold fm_readLine_k48 at r1
          refine lv_iconst (v := 4) hx hb dX3_readLine_48 (by decide) ?_
          obtain ⟨x9, e9, r1⟩ := ob r1
          refine m_cvv (As := [.int x6, .int (4 : Int32)]) (rest := []) C hX hS hl.1 (cm_wants l G hG x5 x6 (4 : Int32) e9) (cwV 2 hts (lw_V q2164 q2166 qs71 q109 q2167) rfl rfl rfl (by decide +kernel) ⟨Nat.le_of_ble_eq_true rfl, Nat.le_of_ble_eq_true rfl⟩) rfl rfl (Nat.le_of_ble_eq_true rfl) dX3_readLine_49 (fun H locs hX hS => ?_)
          refine lv_aload_n hx hb dX3_readLine_52 rfl (lv_at hl 0 rfl) ?_
          refine m_gi (k := 33) C q1731 rfl hX dX3_readLine_53 ?_
          refine lv_if_le (tgt := 60) hx hb dX3_readLine_56 (by decide) (fun c10 => ?_) (fun c10 => ?_)
          · replace r1 := it c10 r1
            refine lv_aload_n hx hb dX3_readLine_60 rfl (lv_at hl 0 rfl) ?_
            refine m_gi (k := 32) C q1730 rfl hX dX3_readLine_61 ?_
            refine lv_istore_n (lv' := [(1, .int (gI x9 32)), (0, .ref (zh G))]) hx hb dX3_readLine_64 rfl hl (by decide) rfl (fun ls hl => ?_)
            refine lv_aload_n hx hb dX3_readLine_65 rfl (lv_at hl 1 rfl) ?_
            refine m_ga (k := 40) (d := 0) C q1738 rfl (by decide) hX dX3_readLine_66 ?_
            refine lv_aload_n hx hb dX3_readLine_69 rfl (lv_at hl 1 rfl) ?_
            refine m_gi (k := 39) C q1737 rfl hX dX3_readLine_70 ?_
            refine lv_iload_n hx hb dX3_readLine_73 rfl (lv_at hl 0 rfl) ?_
            obtain ⟨x11, e11, r1⟩ := ob r1
            refine m_is (k := 40) C rfl hX hS e11 dX3_readLine_74 (fun H locs hX hS => ?_)
            refine lv_aload_n hx hb dX3_readLine_75 rfl (lv_at hl 1 rfl) ?_
            refine m_ga (k := 41) (d := 0) C q1739 rfl (by decide) hX dX3_readLine_76 ?_
            refine lv_aload_n hx hb dX3_readLine_79 rfl (lv_at hl 1 rfl) ?_
            refine m_gi (k := 39) C q1737 rfl hX dX3_readLine_80 ?_
            refine lv_aload_n hx hb dX3_readLine_83 rfl (lv_at hl 1 rfl) ?_
            refine m_gi (k := 43) C q1741 rfl hX dX3_readLine_84 ?_
            obtain ⟨x12, e12, r1⟩ := ob r1
            refine m_is (k := 41) C rfl hX hS e12 dX3_readLine_87 (fun H locs hX hS => ?_)
            refine lv_aload_n hx hb dX3_readLine_88 rfl (lv_at hl 1 rfl) ?_
            obtain ⟨x13, e13, r1⟩ := ob r1
            refine m_cvv (As := []) (rest := []) C hX hS hl.1 (cm_next l G hG x12  e13) (cwV 0 hts (lw_V q2138 q2140 qs65 q109 q2141) rfl rfl rfl (by decide +kernel) ⟨Nat.le_of_ble_eq_true rfl, Nat.le_of_ble_eq_true rfl⟩) rfl rfl (Nat.le_of_ble_eq_true rfl) dX3_readLine_89 (fun H locs hX hS => ?_)
            refine lv_iload_n hx hb dX3_readLine_92 rfl (lv_at hl 0 rfl) ?_
            refine lv_iconst (v := 1) hx hb dX3_readLine_93 (by decide) ?_
            obtain ⟨x14, r14, r1⟩ := ob r1
            refine m_join (I := fun (t15 : mS) H locs ls => x14 = .inl t15 ∧ mX G t15 H ∧ va_S (zA G) s.heap H locs ∧ lv_has ls 2 [(0, .ref (zh G))]) 102 (fun t15 => []) (fun t15 H locs ls hi => ?_) (fun J14 => ?_)
            · obtain ⟨rfl, hX, hS, hl⟩ := hi
              replace r1 := sk_l r1
              unfold fm_readLine_k102 at r1
              refine lv_aload_n hx hb dX3_readLine_102 rfl (lv_at hl 0 rfl) ?_
              obtain ⟨x23, e23, r1⟩ := ob r1
              refine m_cvv (As := []) (rest := []) C hX hS hl.1 (cm_readSum l G hG t15  e23) (cwV 0 hts (lw_V q2174 q2176 qs73 q109 q2177) rfl rfl rfl (by decide +kernel) ⟨Nat.le_of_ble_eq_true rfl, Nat.le_of_ble_eq_true rfl⟩) rfl rfl (Nat.le_of_ble_eq_true rfl) dX3_readLine_103 (fun H locs hX hS => ?_)
              refine lv_goto (tgt := 113) hx hb dX3_readLine_106 (by decide) ?_
              refine lv_aload_n hx hb dX3_readLine_113 rfl (lv_at hl 0 rfl) ?_
              refine lv_aload_n hx hb dX3_readLine_114 rfl (lv_at hl 0 rfl) ?_
              refine lv_bipush (v := 59) hx hb dX3_readLine_115 (by decide) ?_
              refine m_cvi (As := [.int (59 : Int32)]) (rest := [.ref (zh G)]) C hX hS hl.1 (cm_isSign l G hG x23 (59 : Int32) rfl) (cwV 1 hts (lw_V q2178 q2180 qs74 q109 q2181) rfl rfl rfl (by decide +kernel) ⟨Nat.le_of_ble_eq_true rfl, Nat.le_of_ble_eq_true rfl⟩) rfl rfl (Nat.le_of_ble_eq_true rfl) dX3_readLine_117 (fun H locs hX hS => ?_)
              refine lv_iconst (v := 2) hx hb dX3_readLine_120 (by decide) ?_
              obtain ⟨x24, e24, r1⟩ := ob r1
              refine m_cvv (As := [.int (fm_isSign x23 (59 : Int32)), .int (2 : Int32)]) (rest := []) C hX hS hl.1 (cm_wants l G hG x23 (fm_isSign x23 (59 : Int32)) (2 : Int32) e24) (cwV 2 hts (lw_V q2164 q2166 qs71 q109 q2167) rfl rfl rfl (by decide +kernel) ⟨Nat.le_of_ble_eq_true rfl, Nat.le_of_ble_eq_true rfl⟩) rfl rfl (Nat.le_of_ble_eq_true rfl) dX3_readLine_121 (fun H locs hX hS => ?_)
              refine lv_aload_n hx hb dX3_readLine_124 rfl (lv_at hl 0 rfl) ?_
              obtain ⟨x25, e25, r1⟩ := ob r1
              refine m_cvv (As := []) (rest := []) C hX hS hl.1 (cm_next l G hG x24  e25) (cwV 0 hts (lw_V q2138 q2140 qs65 q109 q2141) rfl rfl rfl (by decide +kernel) ⟨Nat.le_of_ble_eq_true rfl, Nat.le_of_ble_eq_true rfl⟩) rfl rfl (Nat.le_of_ble_eq_true rfl) dX3_readLine_125 (fun H locs hX hS => ?_)
              refine lv_aload_n hx hb dX3_readLine_128 rfl (lv_at hl 0 rfl) ?_
              refine lv_dup hx hb dX3_readLine_129 rfl ?_
              refine m_gi (k := 39) C q1737 rfl hX dX3_readLine_130 ?_
              refine lv_iconst (v := 1) hx hb dX3_readLine_133 (by decide) ?_
              refine lv_iadd hx hb dX3_readLine_134 ?_
              obtain ⟨x26, e26, r1⟩ := ob r1
              refine m_pi (k := 39) C q1737 rfl hX hS e26 dX3_readLine_135 (fun H locs hX hS => ?_)
              refine lv_aload_n hx hb dX3_readLine_138 rfl (lv_at hl 0 rfl) ?_
              refine m_ga (k := 41) (d := 0) C q1739 rfl (by decide) hX dX3_readLine_139 ?_
              refine lv_aload_n hx hb dX3_readLine_142 rfl (lv_at hl 0 rfl) ?_
              refine m_gi (k := 39) C q1737 rfl hX dX3_readLine_143 ?_
              refine lv_aload_n hx hb dX3_readLine_146 rfl (lv_at hl 0 rfl) ?_
              refine m_gi (k := 43) C q1741 rfl hX dX3_readLine_147 ?_
              obtain ⟨x27, e27, r1⟩ := ob r1
              refine m_is (k := 41) C rfl hX hS e27 dX3_readLine_150 (fun H locs hX hS => ?_)
              replace r1 := Option.some.inj r1
              subst r1
              replace hr := sk_r hr
              exact m_rvw (C := C) hret hlk hX hS (Option.some.inj hr) dX3_readLine_151
            · refine lv_icmp_eq (tgt := 102) hx hb dX3_readLine_94 (by decide) (fun c16 => ?_) (fun c16 => ?_)
              · replace r14 := it c16 r14
                exact J14 _ _ _ ls ⟨(Option.some.inj r14).symm, hX, hS, lv_sub hl [1] rfl⟩
              · replace r14 := ie c16 r14
                refine lv_iload_n hx hb dX3_readLine_97 rfl (lv_at hl 0 rfl) ?_
                refine lv_iconst (v := 2) hx hb dX3_readLine_98 (by decide) ?_
                refine lv_icmp_ne (tgt := 109) hx hb dX3_readLine_99 (by decide) (fun c17 => ?_) (fun c17 => ?_)
                · replace r14 := ie c17 r14
                  refine lv_aload_n hx hb dX3_readLine_109 rfl (lv_at hl 1 rfl) ?_
                  obtain ⟨x18, e18, r14⟩ := ob r14
                  refine m_cvv (As := []) (rest := []) C hX hS hl.1 (cm_readTest l G hG x13  e18) (cwV 0 hts (lw_V q2193 q2195 qs77 q109 q2196) rfl rfl rfl (by decide +kernel) ⟨Nat.le_of_ble_eq_true rfl, Nat.le_of_ble_eq_true rfl⟩) rfl rfl (Nat.le_of_ble_eq_true rfl) dX3_readLine_110 (fun H locs hX hS => ?_)
                  refine lv_aload_n hx hb dX3_readLine_113 rfl (lv_at hl 1 rfl) ?_
                  refine lv_aload_n hx hb dX3_readLine_114 rfl (lv_at hl 1 rfl) ?_
                  refine lv_bipush (v := 59) hx hb dX3_readLine_115 (by decide) ?_
                  refine m_cvi (As := [.int (59 : Int32)]) (rest := [.ref (zh G)]) C hX hS hl.1 (cm_isSign l G hG x18 (59 : Int32) rfl) (cwV 1 hts (lw_V q2178 q2180 qs74 q109 q2181) rfl rfl rfl (by decide +kernel) ⟨Nat.le_of_ble_eq_true rfl, Nat.le_of_ble_eq_true rfl⟩) rfl rfl (Nat.le_of_ble_eq_true rfl) dX3_readLine_117 (fun H locs hX hS => ?_)
                  refine lv_iconst (v := 2) hx hb dX3_readLine_120 (by decide) ?_
                  obtain ⟨x19, e19, r14⟩ := ob r14
                  refine m_cvv (As := [.int (fm_isSign x18 (59 : Int32)), .int (2 : Int32)]) (rest := []) C hX hS hl.1 (cm_wants l G hG x18 (fm_isSign x18 (59 : Int32)) (2 : Int32) e19) (cwV 2 hts (lw_V q2164 q2166 qs71 q109 q2167) rfl rfl rfl (by decide +kernel) ⟨Nat.le_of_ble_eq_true rfl, Nat.le_of_ble_eq_true rfl⟩) rfl rfl (Nat.le_of_ble_eq_true rfl) dX3_readLine_121 (fun H locs hX hS => ?_)
                  refine lv_aload_n hx hb dX3_readLine_124 rfl (lv_at hl 1 rfl) ?_
                  obtain ⟨x20, e20, r14⟩ := ob r14
                  refine m_cvv (As := []) (rest := []) C hX hS hl.1 (cm_next l G hG x19  e20) (cwV 0 hts (lw_V q2138 q2140 qs65 q109 q2141) rfl rfl rfl (by decide +kernel) ⟨Nat.le_of_ble_eq_true rfl, Nat.le_of_ble_eq_true rfl⟩) rfl rfl (Nat.le_of_ble_eq_true rfl) dX3_readLine_125 (fun H locs hX hS => ?_)
                  refine lv_aload_n hx hb dX3_readLine_128 rfl (lv_at hl 1 rfl) ?_
                  refine lv_dup hx hb dX3_readLine_129 rfl ?_
                  refine m_gi (k := 39) C q1737 rfl hX dX3_readLine_130 ?_
                  refine lv_iconst (v := 1) hx hb dX3_readLine_133 (by decide) ?_
                  refine lv_iadd hx hb dX3_readLine_134 ?_
                  obtain ⟨x21, e21, r14⟩ := ob r14
                  refine m_pi (k := 39) C q1737 rfl hX hS e21 dX3_readLine_135 (fun H locs hX hS => ?_)
                  refine lv_aload_n hx hb dX3_readLine_138 rfl (lv_at hl 1 rfl) ?_
                  refine m_ga (k := 41) (d := 0) C q1739 rfl (by decide) hX dX3_readLine_139 ?_
                  refine lv_aload_n hx hb dX3_readLine_142 rfl (lv_at hl 1 rfl) ?_
                  refine m_gi (k := 39) C q1737 rfl hX dX3_readLine_143 ?_
                  refine lv_aload_n hx hb dX3_readLine_146 rfl (lv_at hl 1 rfl) ?_
                  refine m_gi (k := 43) C q1741 rfl hX dX3_readLine_147 ?_
                  obtain ⟨x22, e22, r14⟩ := ob r14
                  refine m_is (k := 41) C rfl hX hS e22 dX3_readLine_150 (fun H locs hX hS => ?_)
                  replace r14 := Option.some.inj r14
                  subst r14
                  replace r1 := sk_r r1
                  replace r1 := Option.some.inj r1
                  subst r1
                  replace hr := sk_r hr
                  exact m_rvw (C := C) hret hlk hX hS (Option.some.inj hr) dX3_readLine_151
                · replace r14 := it c17 r14
                  exact J14 _ _ _ ls ⟨(Option.some.inj r14).symm, hX, hS, lv_sub hl [1] rfl⟩
          · replace r1 := ie c10 r1
            replace r1 := Option.some.inj r1
            subst r1
            replace hr := sk_r hr
            exact m_rvw (C := C) hret hlk hX hS (Option.some.inj hr) dX3_readLine_59
        · refine lv_icmp_ge (tgt := 47) hx hb dX3_readLine_40 (by decide) (fun c8 => ?_) (fun c8 => ?_)
          · replace r6 := it c8 r6
            refine lv_iconst (v := 0) hx hb dX3_readLine_47 (by decide) ?_
            exact J6 _ _ _ ls ⟨(Option.some.inj r6).symm, hX, hS, hl⟩
          · replace r6 := ie c8 r6
            refine lv_iconst (v := 1) hx hb dX3_readLine_43 (by decide) ?_
            refine lv_goto (tgt := 48) hx hb dX3_readLine_44 (by decide) ?_
            exact J6 _ _ _ ls ⟨(Option.some.inj r6).symm, hX, hS, hl⟩

def fm_text_l120  (t25 : mS × Int32) : Option ((mS × Int32) ⊕ (mS)) :=
  (if (gI t25.1 43) ≤ t25.2 then
  some (.inr t25.1)
  else
  (aI t25.1 42 t25.2).bind fun x29 =>
  (tI t25.1 38 t25.2 x29).bind fun x30 =>
  some (.inl (x30, (t25.2 + (1 : Int32)))))
def fm_text_l82  (t16 : mS × Int32) : Option ((mS × Int32) ⊕ (mS)) :=
  (if (13 : Int32) ≤ t16.2 then
  some (.inr t16.1)
  else
  (aI t16.1 40 t16.2).bind fun x20 =>
  (tI t16.1 36 t16.2 x20).bind fun x21 =>
  (aI x21 41 t16.2).bind fun x22 =>
  (tI x21 37 t16.2 x22).bind fun x23 =>
  some (.inl (x23, (t16.2 + (1 : Int32)))))
def fm_text_k52  (z9 : mS) : Option ((mS × Int32)) :=
  (pI z9 28 (0 : Int32)).bind fun x13 =>
  (if (gI x13 33) ≤ 0 then
  (pI x13 35 (gI x13 39)).bind fun x15 =>
  (loopO fm_text_l82 1000000 (x15, (0 : Int32))).bind (fun z18 =>
  (loopO fm_text_l120 1000000 (z18, (0 : Int32))).bind (fun z27 =>
  some (z27, (gI z27 35))))
  else
  some (x13, ((-10 : Int32) - (gI x13 34))))
def fm_text_l31  (t7 : mS) : Option ((mS) ⊕ (mS)) :=
  (if (gI t7 33) = 0 then
  (if (gI t7 31) = 0 then
  some (.inr t7)
  else
  (fm_readLine t7).bind fun x12 =>
  some (.inl x12))
  else
  some (.inr t7))
def fm_text (S : mS) : Option (mS × Int32) :=
  (pI S 33 (0 : Int32)).bind fun x1 =>
  (pI x1 29 (0 : Int32)).bind fun x2 =>
  (pI x2 43 (0 : Int32)).bind fun x3 =>
  (pI x3 39 (0 : Int32)).bind fun x4 =>
  (tI x4 41 (0 : Int32) (0 : Int32)).bind fun x5 =>
  (fm_next x5).bind fun x6 =>
  (loopO fm_text_l31 1000000 x6).bind (fun z9 => fm_text_k52 z9)
set_option maxHeartbeats 4000000 in
set_option maxRecDepth 100000 in
theorem cm_text (l : Launch) (G : mGh) (hG : mOk G) (S : mS)  {S' : mS} {r : Int32} (hr : fm_text S = some (S', r)) : Met l yX3_text (ws_ yX3_text cX3_text 2 (some .int)) ({ frames := 9, cells := 0, slots := 0, locals := 197 } : Room) (mPc G [] S) (mQi G r S') 0 0 (zA G) := by
  refine m_met cX3_text (by decide) rfl hG (Nat.le_of_ble_eq_true rfl) (fun p e s m args below meth c C hret hlk ls hX hl => ?_)
  have hx := C.1.1
  have hb := C.1.2.1
  have hown := C.1.2.2.2.1
  have hts := C.1.2.2.2.2
  have hS : va_S (zA G) s.heap s.heap [] := va_S.rf
  have hl : lv_has ls 2 [(0, .ref (zh G))] := hl
  unfold fm_text at hr
  refine lv_aload_n hx hb dX3_text_0 rfl (lv_at hl 0 rfl) ?_
  refine lv_iconst (v := 0) hx hb dX3_text_1 (by decide) ?_
  obtain ⟨x1, e1, hr⟩ := ob hr
  refine m_pi (k := 33) C q1731 rfl hX hS e1 dX3_text_2 (fun H locs hX hS => ?_)
  refine lv_aload_n hx hb dX3_text_5 rfl (lv_at hl 0 rfl) ?_
  refine lv_iconst (v := 0) hx hb dX3_text_6 (by decide) ?_
  obtain ⟨x2, e2, hr⟩ := ob hr
  refine m_pi (k := 29) C q1727 rfl hX hS e2 dX3_text_7 (fun H locs hX hS => ?_)
  refine lv_aload_n hx hb dX3_text_10 rfl (lv_at hl 0 rfl) ?_
  refine lv_iconst (v := 0) hx hb dX3_text_11 (by decide) ?_
  obtain ⟨x3, e3, hr⟩ := ob hr
  refine m_pi (k := 43) C q1741 rfl hX hS e3 dX3_text_12 (fun H locs hX hS => ?_)
  refine lv_aload_n hx hb dX3_text_15 rfl (lv_at hl 0 rfl) ?_
  refine lv_iconst (v := 0) hx hb dX3_text_16 (by decide) ?_
  obtain ⟨x4, e4, hr⟩ := ob hr
  refine m_pi (k := 39) C q1737 rfl hX hS e4 dX3_text_17 (fun H locs hX hS => ?_)
  refine lv_aload_n hx hb dX3_text_20 rfl (lv_at hl 0 rfl) ?_
  refine m_ga (k := 41) (d := 0) C q1739 rfl (by decide) hX dX3_text_21 ?_
  refine lv_iconst (v := 0) hx hb dX3_text_24 (by decide) ?_
  refine lv_iconst (v := 0) hx hb dX3_text_25 (by decide) ?_
  obtain ⟨x5, e5, hr⟩ := ob hr
  refine m_is (k := 41) C rfl hX hS e5 dX3_text_26 (fun H locs hX hS => ?_)
  refine lv_aload_n hx hb dX3_text_27 rfl (lv_at hl 0 rfl) ?_
  obtain ⟨x6, e6, hr⟩ := ob hr
  refine m_cvv (As := []) (rest := []) C hX hS hl.1 (cm_next l G hG x5  e6) (cwV 0 hts (lw_V q2138 q2140 qs65 q109 q2141) rfl rfl rfl (by decide +kernel) ⟨Nat.le_of_ble_eq_true rfl, Nat.le_of_ble_eq_true rfl⟩) rfl rfl (Nat.le_of_ble_eq_true rfl) dX3_text_28 (fun H locs hX hS => ?_)
  obtain ⟨z9, e9, hr⟩ := ob hr
  refine m_join (I := fun (_ : Unit) H locs ls => mX G z9 H ∧ va_S (zA G) s.heap H locs ∧ lv_has ls 2 [(0, .ref (zh G))]) 52 (fun _ => []) (fun _ H locs ls hi => ?_) (fun J7_52 => ?_)
  · obtain ⟨hX, hS, hl⟩ := hi
    unfold fm_text_k52 at hr
    refine lv_aload_n hx hb dX3_text_52 rfl (lv_at hl 0 rfl) ?_
    refine lv_iconst (v := 0) hx hb dX3_text_53 (by decide) ?_
    obtain ⟨x13, e13, hr⟩ := ob hr
    refine m_pi (k := 28) C q1726 rfl hX hS e13 dX3_text_54 (fun H locs hX hS => ?_)
    refine lv_aload_n hx hb dX3_text_57 rfl (lv_at hl 0 rfl) ?_
    refine m_gi (k := 33) C q1731 rfl hX dX3_text_58 ?_
    refine lv_if_le (tgt := 72) hx hb dX3_text_61 (by decide) (fun c14 => ?_) (fun c14 => ?_)
    · replace hr := it c14 hr
      refine lv_aload_n hx hb dX3_text_72 rfl (lv_at hl 0 rfl) ?_
      refine lv_aload_n hx hb dX3_text_73 rfl (lv_at hl 0 rfl) ?_
      refine m_gi (k := 39) C q1737 rfl hX dX3_text_74 ?_
      obtain ⟨x15, e15, hr⟩ := ob hr
      refine m_pi (k := 35) C q1733 rfl hX hS e15 dX3_text_77 (fun H locs hX hS => ?_)
      refine lv_iconst (v := 0) hx hb dX3_text_80 (by decide) ?_
      refine lv_istore_n (lv' := [(1, .int (0 : Int32)), (0, .ref (zh G))]) hx hb dX3_text_81 rfl hl (by decide) rfl (fun ls hl => ?_)
      obtain ⟨z18, e18, hr⟩ := ob hr
      refine m_join (I := fun (_ : Unit) H locs ls => mX G z18 H ∧ va_S (zA G) s.heap H locs ∧ lv_has ls 2 [(0, .ref (zh G))]) 118 (fun _ => []) (fun _ H locs ls hi => ?_) (fun J16_118 => ?_)
      · obtain ⟨hX, hS, hl⟩ := hi
        refine lv_iconst (v := 0) hx hb dX3_text_118 (by decide) ?_
        refine lv_istore_n (lv' := [(1, .int (0 : Int32)), (0, .ref (zh G))]) hx hb dX3_text_119 rfl hl (by decide) rfl (fun ls hl => ?_)
        obtain ⟨z27, e27, hr⟩ := ob hr
        refine m_join (I := fun (_ : Unit) H locs ls => mX G z27 H ∧ va_S (zA G) s.heap H locs ∧ lv_has ls 2 [(0, .ref (zh G))]) 146 (fun _ => []) (fun _ H locs ls hi => ?_) (fun J25_146 => ?_)
        · obtain ⟨hX, hS, hl⟩ := hi
          refine lv_aload_n hx hb dX3_text_146 rfl (lv_at hl 0 rfl) ?_
          refine m_gi (k := 35) C q1733 rfl hX dX3_text_147 ?_
          exact m_riw (C := C) hret hlk hX hS (Option.some.inj hr) dX3_text_150
        refine m_loop e27 (fun (t25 : mS × Int32) H locs ls => mX G t25.1 H ∧ va_S (zA G) s.heap H locs ∧ lv_has ls 2 [(0, .ref (zh G)), (1, .int t25.2)]) 120 ⟨hX, hS, lv_sub hl [1, 0] rfl⟩ (fun t25 y25 b25 w25 k25 H locs ls hi => ?_)
        obtain ⟨hX, hS, hl⟩ := hi
        unfold fm_text_l120 at b25
        refine lv_iload_n hx hb dX3_text_120 rfl (lv_at hl 1 rfl) ?_
        refine lv_aload_n hx hb dX3_text_121 rfl (lv_at hl 0 rfl) ?_
        refine m_gi (k := 43) C q1741 rfl hX dX3_text_122 ?_
        refine lv_icmp_ge (tgt := 146) hx hb dX3_text_125 (by decide) (fun c28 => ?_) (fun c28 => ?_)
        · replace b25 := it c28 b25
          replace b25 := lx b25 w25
          subst b25
          exact J25_146 () _ _ ls ⟨hX, hS, lv_sub hl [0] rfl⟩
        · replace b25 := ie c28 b25
          refine lv_aload_n hx hb dX3_text_128 rfl (lv_at hl 0 rfl) ?_
          refine m_ga (k := 38) (d := 0) C q1736 rfl (by decide) hX dX3_text_129 ?_
          refine lv_iload_n hx hb dX3_text_132 rfl (lv_at hl 1 rfl) ?_
          refine lv_aload_n hx hb dX3_text_133 rfl (lv_at hl 0 rfl) ?_
          refine m_ga (k := 42) (d := 0) C q1740 rfl (by decide) hX dX3_text_134 ?_
          refine lv_iload_n hx hb dX3_text_137 rfl (lv_at hl 1 rfl) ?_
          obtain ⟨x29, e29, b25⟩ := ob b25
          refine m_ia (k := 42) C rfl hX e29 dX3_text_138 ?_
          obtain ⟨x30, e30, b25⟩ := ob b25
          refine m_is (k := 38) C rfl hX hS e30 dX3_text_139 (fun H locs hX hS => ?_)
          refine lv_iinc (v := (t25.2 + (1 : Int32))) (k := 1) (lv' := [(1, .int (t25.2 + (1 : Int32))), (0, .ref (zh G))]) hx hb dX3_text_140 hl rfl rfl (by decide) rfl (fun ls hl => ?_)
          refine lv_goto (tgt := 120) hx hb dX3_text_143 (by decide) ?_
          obtain ⟨g31, hg31⟩ : ∃ g, g = (t25.2 + (1 : Int32)) := ⟨_, rfl⟩
          rw [← hg31] at hl b25
          exact k25 _ (Option.some.inj b25).symm _ _ ls ⟨hX, hS, lv_sub hl [1, 0] rfl⟩
      refine m_loop e18 (fun (t16 : mS × Int32) H locs ls => mX G t16.1 H ∧ va_S (zA G) s.heap H locs ∧ lv_has ls 2 [(0, .ref (zh G)), (1, .int t16.2)]) 82 ⟨hX, hS, lv_sub hl [1, 0] rfl⟩ (fun t16 y16 b16 w16 k16 H locs ls hi => ?_)
      obtain ⟨hX, hS, hl⟩ := hi
      unfold fm_text_l82 at b16
      refine lv_iload_n hx hb dX3_text_82 rfl (lv_at hl 1 rfl) ?_
      refine lv_bipush (v := 13) hx hb dX3_text_83 (by decide) ?_
      refine lv_icmp_ge (tgt := 118) hx hb dX3_text_85 (by decide) (fun c19 => ?_) (fun c19 => ?_)
      · replace b16 := it c19 b16
        replace b16 := lx b16 w16
        subst b16
        exact J16_118 () _ _ ls ⟨hX, hS, lv_sub hl [0] rfl⟩
      · replace b16 := ie c19 b16
        refine lv_aload_n hx hb dX3_text_88 rfl (lv_at hl 0 rfl) ?_
        refine m_ga (k := 36) (d := 0) C q1734 rfl (by decide) hX dX3_text_89 ?_
        refine lv_iload_n hx hb dX3_text_92 rfl (lv_at hl 1 rfl) ?_
        refine lv_aload_n hx hb dX3_text_93 rfl (lv_at hl 0 rfl) ?_
        refine m_ga (k := 40) (d := 0) C q1738 rfl (by decide) hX dX3_text_94 ?_
        refine lv_iload_n hx hb dX3_text_97 rfl (lv_at hl 1 rfl) ?_
        obtain ⟨x20, e20, b16⟩ := ob b16
        refine m_ia (k := 40) C rfl hX e20 dX3_text_98 ?_
        obtain ⟨x21, e21, b16⟩ := ob b16
        refine m_is (k := 36) C rfl hX hS e21 dX3_text_99 (fun H locs hX hS => ?_)
        refine lv_aload_n hx hb dX3_text_100 rfl (lv_at hl 0 rfl) ?_
        refine m_ga (k := 37) (d := 0) C q1735 rfl (by decide) hX dX3_text_101 ?_
        refine lv_iload_n hx hb dX3_text_104 rfl (lv_at hl 1 rfl) ?_
        refine lv_aload_n hx hb dX3_text_105 rfl (lv_at hl 0 rfl) ?_
        refine m_ga (k := 41) (d := 0) C q1739 rfl (by decide) hX dX3_text_106 ?_
        refine lv_iload_n hx hb dX3_text_109 rfl (lv_at hl 1 rfl) ?_
        obtain ⟨x22, e22, b16⟩ := ob b16
        refine m_ia (k := 41) C rfl hX e22 dX3_text_110 ?_
        obtain ⟨x23, e23, b16⟩ := ob b16
        refine m_is (k := 37) C rfl hX hS e23 dX3_text_111 (fun H locs hX hS => ?_)
        refine lv_iinc (v := (t16.2 + (1 : Int32))) (k := 1) (lv' := [(1, .int (t16.2 + (1 : Int32))), (0, .ref (zh G))]) hx hb dX3_text_112 hl rfl rfl (by decide) rfl (fun ls hl => ?_)
        refine lv_goto (tgt := 82) hx hb dX3_text_115 (by decide) ?_
        obtain ⟨g24, hg24⟩ : ∃ g, g = (t16.2 + (1 : Int32)) := ⟨_, rfl⟩
        rw [← hg24] at hl b16
        exact k16 _ (Option.some.inj b16).symm _ _ ls ⟨hX, hS, lv_sub hl [1, 0] rfl⟩
    · replace hr := ie c14 hr
      refine lv_bipush (v := -10) hx hb dX3_text_64 (by decide) ?_
      refine lv_aload_n hx hb dX3_text_66 rfl (lv_at hl 0 rfl) ?_
      refine m_gi (k := 34) C q1732 rfl hX dX3_text_67 ?_
      refine lv_isub hx hb dX3_text_70 ?_
      exact m_riw (C := C) hret hlk hX hS (Option.some.inj hr) dX3_text_71
  refine m_loop e9 (fun (t7 : mS) H locs ls => mX G t7 H ∧ va_S (zA G) s.heap H locs ∧ lv_has ls 2 [(0, .ref (zh G))]) 31 ⟨hX, hS, hl⟩ (fun t7 y7 b7 w7 k7 H locs ls hi => ?_)
  obtain ⟨hX, hS, hl⟩ := hi
  unfold fm_text_l31 at b7
  refine lv_aload_n hx hb dX3_text_31 rfl (lv_at hl 0 rfl) ?_
  refine m_gi (k := 33) C q1731 rfl hX dX3_text_32 ?_
  refine lv_if_ne (tgt := 52) hx hb dX3_text_35 (by decide) (fun c10 => ?_) (fun c10 => ?_)
  · replace b7 := ie c10 b7
    replace b7 := lx b7 w7
    subst b7
    exact J7_52 () _ _ ls ⟨hX, hS, hl⟩
  · replace b7 := it c10 b7
    refine lv_aload_n hx hb dX3_text_38 rfl (lv_at hl 0 rfl) ?_
    refine m_gi (k := 31) C q1729 rfl hX dX3_text_39 ?_
    refine lv_if_eq (tgt := 52) hx hb dX3_text_42 (by decide) (fun c11 => ?_) (fun c11 => ?_)
    · replace b7 := it c11 b7
      replace b7 := lx b7 w7
      subst b7
      exact J7_52 () _ _ ls ⟨hX, hS, hl⟩
    · replace b7 := ie c11 b7
      refine lv_aload_n hx hb dX3_text_45 rfl (lv_at hl 0 rfl) ?_
      obtain ⟨x12, e12, b7⟩ := ob b7
      refine m_cvv (As := []) (rest := []) C hX hS hl.1 (cm_readLine l G hG t7  e12) (cwV 0 hts (lw_V q2170 q2172 qs72 q109 q2173) rfl rfl rfl (by decide +kernel) ⟨Nat.le_of_ble_eq_true rfl, Nat.le_of_ble_eq_true rfl⟩) rfl rfl (Nat.le_of_ble_eq_true rfl) dX3_text_46 (fun H locs hX hS => ?_)
      refine lv_goto (tgt := 31) hx hb dX3_text_49 (by decide) ?_
      exact k7 _ (Option.some.inj b7).symm _ _ ls ⟨hX, hS, hl⟩
