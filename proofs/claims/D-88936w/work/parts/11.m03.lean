/-! M's methods, printed by tool/genm.py -/
def fm_wayOf_k189 (t32 : mS × Int32) (z15 : Int32) (x37 : Int32) : Option ((mS × Int32) ⊕ (mS)) :=
  (((if x37 = (-5 : Int32) then
  some t32.1
  else
  (aI t32.1 15 z15).bind fun x45 =>
  (aI t32.1 4 t32.2).bind fun x46 =>
  (aI t32.1 15 x46).bind fun x47 =>
  (if x47 ≤ (x45 + x37) then
  some t32.1
  else
  (aI t32.1 4 t32.2).bind fun x49 =>
  (aI t32.1 15 z15).bind fun x50 =>
  (tI t32.1 15 x49 (x50 + x37)).bind fun x51 =>
  some x51)) : Option (mS))).bind (fun x42 =>
  some (.inl (x42, (t32.2 + (1 : Int32)))))
def fm_wayOf_l149 (a3 : Int32) (z15 : Int32) (t32 : mS × Int32) : Option ((mS × Int32) ⊕ (mS)) :=
  (if (gI t32.1 2) ≤ t32.2 then
  some (.inr t32.1)
  else
  (aI t32.1 3 t32.2).bind fun x36 =>
  (((if x36 = z15 then
  (aI t32.1 15 z15).bind fun x40 =>
  (fm_takesOf t32.1 t32.2 a3 x40).bind fun x41 =>
  some x41
  else
  some (-5 : Int32)) : Option (Int32))).bind (fun x37 => fm_wayOf_k189 t32 z15 x37))
def fm_wayOf_k131 (a3 : Int32) (t9 : mS × Int32) (z15 : Int32) : Option ((mS × Int32) ⊕ (mS)) :=
  (((if z15 = (-4 : Int32) then
  some t9.1
  else
  (tZ t9.1 16 z15 (1 : Int32)).bind fun x31 =>
  (loopO (fm_wayOf_l149 a3 z15) 1000000 (x31, (0 : Int32))).bind (fun z34 =>
  some z34)) : Option (mS))).bind (fun x28 =>
  some (.inl (x28, (t9.2 + (1 : Int32)))))
def fm_wayOf_l61 (t9 : mS × Int32) (t13 : Int32 × Int32) : Option ((Int32 × Int32) ⊕ (Int32)) :=
  (if (gI t9.1 0) ≤ t13.2 then
  some (.inr t13.1)
  else
  (aI t9.1 16 t13.2).bind fun x17 =>
  (((if x17 = 0 then
  (aI t9.1 15 t13.2).bind fun x21 =>
  (if (96 : Int32) ≤ x21 then
  some t13.1
  else
  (if t13.1 = (-4 : Int32) then
  some t13.2
  else
  (aI t9.1 15 t13.2).bind fun x24 =>
  (aI t9.1 15 t13.1).bind fun x25 =>
  (if x25 ≤ x24 then
  some t13.1
  else
  some t13.2)))
  else
  some t13.1) : Option (Int32))).bind (fun x18 =>
  some (.inl (x18, (t13.2 + (1 : Int32))))))
def fm_wayOf_k257 (a2 : Int32) (z11 : mS) : Option ((mS × Int32)) :=
  (aI z11 15 a2).bind fun x54 =>
  (if (96 : Int32) ≤ x54 then
  some (z11, (-4 : Int32))
  else
  (aI z11 15 a2).bind fun x56 =>
  some (z11, x56))
def fm_wayOf_l45 (a3 : Int32) (t9 : mS × Int32) : Option ((mS × Int32) ⊕ (mS)) :=
  (if (gI t9.1 0) ≤ t9.2 then
  some (.inr t9.1)
  else
  (loopO (fm_wayOf_l61 t9) 1000000 ((-4 : Int32), (0 : Int32))).bind (fun z15 => fm_wayOf_k131 a3 t9 z15))
def fm_wayOf_l3  (t1 : mS × Int32) : Option ((mS × Int32) ⊕ (mS)) :=
  (if (12 : Int32) ≤ t1.2 then
  some (.inr t1.1)
  else
  (tI t1.1 15 t1.2 (1000 : Int32)).bind fun x5 =>
  (tZ x5 16 t1.2 (0 : Int32)).bind fun x6 =>
  some (.inl (x6, (t1.2 + (1 : Int32)))))
def fm_wayOf (S : mS) (a1 : Int32) (a2 : Int32) (a3 : Int32) (a4 : Int32) : Option (mS × Int32) :=
  (loopO fm_wayOf_l3 1000000 (S, (0 : Int32))).bind (fun z3 =>
  (tI z3 15 a1 a4).bind fun x8 =>
  (loopO (fm_wayOf_l45 a3) 1000000 (x8, (0 : Int32))).bind (fun z11 => fm_wayOf_k257 a2 z11))
set_option maxHeartbeats 4000000 in
set_option maxRecDepth 100000 in
theorem cm_wayOf (l : Launch) (G : mGh) (hG : mOk G) (S : mS) (a1 : Int32) (a2 : Int32) (a3 : Int32) (a4 : Int32) {S' : mS} {r : Int32} (hr : fm_wayOf S a1 a2 a3 a4 = some (S', r)) : Met l yX3_wayOf (ws_ yX3_wayOf cX3_wayOf 9 (some .int)) ({ frames := 3, cells := 0, slots := 0, locals := 75 } : Room) (mPc G [.int a1, .int a2, .int a3, .int a4] S) (mQi G r S') 0 0 (zA G) := by
  refine m_met cX3_wayOf (by decide) rfl hG (Nat.le_of_ble_eq_true rfl) (fun p e s m args below meth c C hret hlk ls hX hl => ?_)
  have hx := C.1.1
  have hb := C.1.2.1
  have hown := C.1.2.2.2.1
  have hts := C.1.2.2.2.2
  have hS : va_S (zA G) s.heap s.heap [] := va_S.rf
  have hl : lv_has ls 9 [(0, .ref (zh G)), (1, .int a1), (2, .int a2), (3, .int a3), (4, .int a4)] := hl
  unfold fm_wayOf at hr
  refine lv_iconst (v := 0) hx hb dX3_wayOf_0 (by decide) ?_
  refine lv_istore (lv' := [(5, .int (0 : Int32)), (0, .ref (zh G)), (1, .int a1), (2, .int a2), (3, .int a3), (4, .int a4)]) hx hb dX3_wayOf_1 hl (by decide) rfl (fun ls hl => ?_)
  obtain ⟨z3, e3, hr⟩ := ob hr
  refine m_join (I := fun (_ : Unit) H locs ls => mX G z3 H ∧ va_S (zA G) s.heap H locs ∧ lv_has ls 9 [(0, .ref (zh G)), (1, .int a1), (2, .int a2), (3, .int a3), (4, .int a4)]) 34 (fun _ => []) (fun _ H locs ls hi => ?_) (fun J1_34 => ?_)
  · obtain ⟨hX, hS, hl⟩ := hi
    refine lv_aload_n hx hb dX3_wayOf_34 rfl (lv_at hl 0 rfl) ?_
    refine m_ga (k := 15) (d := 0) C q1713 rfl (by decide) hX dX3_wayOf_35 ?_
    refine lv_iload_n hx hb dX3_wayOf_38 rfl (lv_at hl 1 rfl) ?_
    refine lv_iload hx hb dX3_wayOf_39 (lv_at hl 4 rfl) ?_
    obtain ⟨x8, e8, hr⟩ := ob hr
    refine m_is (k := 15) C rfl hX hS e8 dX3_wayOf_41 (fun H locs hX hS => ?_)
    refine lv_iconst (v := 0) hx hb dX3_wayOf_42 (by decide) ?_
    refine lv_istore (lv' := [(5, .int (0 : Int32)), (0, .ref (zh G)), (1, .int a1), (2, .int a2), (3, .int a3), (4, .int a4)]) hx hb dX3_wayOf_43 hl (by decide) rfl (fun ls hl => ?_)
    obtain ⟨z11, e11, hr⟩ := ob hr
    refine m_join (I := fun (_ : Unit) H locs ls => mX G z11 H ∧ va_S (zA G) s.heap H locs ∧ lv_has ls 9 [(0, .ref (zh G)), (2, .int a2)]) 257 (fun _ => []) (fun _ H locs ls hi => ?_) (fun J9_257 => ?_)
    · obtain ⟨hX, hS, hl⟩ := hi
      unfold fm_wayOf_k257 at hr
      refine lv_aload_n hx hb dX3_wayOf_257 rfl (lv_at hl 0 rfl) ?_
      refine m_ga (k := 15) (d := 0) C q1713 rfl (by decide) hX dX3_wayOf_258 ?_
      refine lv_iload_n hx hb dX3_wayOf_261 rfl (lv_at hl 1 rfl) ?_
      obtain ⟨x54, e54, hr⟩ := ob hr
      refine m_ia (k := 15) C rfl hX e54 dX3_wayOf_262 ?_
      refine lv_bipush (v := 96) hx hb dX3_wayOf_263 (by decide) ?_
      refine lv_icmp_ge (tgt := 277) hx hb dX3_wayOf_265 (by decide) (fun c55 => ?_) (fun c55 => ?_)
      · replace hr := it c55 hr
        refine lv_bipush (v := -4) hx hb dX3_wayOf_277 (by decide) ?_
        exact m_riw (C := C) hret hlk hX hS (Option.some.inj hr) dX3_wayOf_279
      · replace hr := ie c55 hr
        refine lv_aload_n hx hb dX3_wayOf_268 rfl (lv_at hl 0 rfl) ?_
        refine m_ga (k := 15) (d := 0) C q1713 rfl (by decide) hX dX3_wayOf_269 ?_
        refine lv_iload_n hx hb dX3_wayOf_272 rfl (lv_at hl 1 rfl) ?_
        obtain ⟨x56, e56, hr⟩ := ob hr
        refine m_ia (k := 15) C rfl hX e56 dX3_wayOf_273 ?_
        refine lv_goto (tgt := 279) hx hb dX3_wayOf_274 (by decide) ?_
        exact m_riw (C := C) hret hlk hX hS (Option.some.inj hr) dX3_wayOf_279
    refine m_loop e11 (fun (t9 : mS × Int32) H locs ls => mX G t9.1 H ∧ va_S (zA G) s.heap H locs ∧ lv_has ls 9 [(0, .ref (zh G)), (2, .int a2), (3, .int a3), (5, .int t9.2)]) 45 ⟨hX, hS, lv_sub hl [1, 3, 4, 0] rfl⟩ (fun t9 y9 b9 w9 k9 H locs ls hi => ?_)
    obtain ⟨hX, hS, hl⟩ := hi
    unfold fm_wayOf_l45 at b9
    refine lv_iload hx hb dX3_wayOf_45 (lv_at hl 3 rfl) ?_
    refine lv_aload_n hx hb dX3_wayOf_47 rfl (lv_at hl 0 rfl) ?_
    refine m_gi (k := 0) C q1698 rfl hX dX3_wayOf_48 ?_
    refine lv_icmp_ge (tgt := 257) hx hb dX3_wayOf_51 (by decide) (fun c12 => ?_) (fun c12 => ?_)
    · replace b9 := it c12 b9
      replace b9 := lx b9 w9
      subst b9
      exact J9_257 () _ _ ls ⟨hX, hS, lv_sub hl [0, 1] rfl⟩
    · replace b9 := ie c12 b9
      refine lv_bipush (v := -4) hx hb dX3_wayOf_54 (by decide) ?_
      refine lv_istore (lv' := [(6, .int (-4 : Int32)), (0, .ref (zh G)), (2, .int a2), (3, .int a3), (5, .int t9.2)]) hx hb dX3_wayOf_56 hl (by decide) rfl (fun ls hl => ?_)
      refine lv_iconst (v := 0) hx hb dX3_wayOf_58 (by decide) ?_
      refine lv_istore (lv' := [(7, .int (0 : Int32)), (6, .int (-4 : Int32)), (0, .ref (zh G)), (2, .int a2), (3, .int a3), (5, .int t9.2)]) hx hb dX3_wayOf_59 hl (by decide) rfl (fun ls hl => ?_)
      obtain ⟨z15, e15, b9⟩ := ob b9
      refine m_join (I := fun (_ : Unit) H locs ls => mX G t9.1 H ∧ va_S (zA G) s.heap H locs ∧ lv_has ls 9 [(0, .ref (zh G)), (2, .int a2), (3, .int a3), (5, .int t9.2), (6, .int z15)]) 131 (fun _ => []) (fun _ H locs ls hi => ?_) (fun J13_131 => ?_)
      · obtain ⟨hX, hS, hl⟩ := hi
        unfold fm_wayOf_k131 at b9
        refine lv_iload hx hb dX3_wayOf_131 (lv_at hl 4 rfl) ?_
        refine lv_bipush (v := -4) hx hb dX3_wayOf_133 (by decide) ?_
        obtain ⟨x28, r28, b9⟩ := ob b9
        refine m_join (I := fun (t29 : mS) H locs ls => x28 = t29 ∧ mX G t29 H ∧ va_S (zA G) s.heap H locs ∧ lv_has ls 9 [(0, .ref (zh G)), (2, .int a2), (3, .int a3), (5, .int t9.2)]) 251 (fun t29 => []) (fun t29 H locs ls hi => ?_) (fun J28 => ?_)
        · obtain ⟨rfl, hX, hS, hl⟩ := hi
          refine lv_iinc (v := (t9.2 + (1 : Int32))) (k := 3) (lv' := [(5, .int (t9.2 + (1 : Int32))), (0, .ref (zh G)), (2, .int a2), (3, .int a3)]) hx hb dX3_wayOf_251 hl rfl rfl (by decide) rfl (fun ls hl => ?_)
          refine lv_goto (tgt := 45) hx hb dX3_wayOf_254 (by decide) ?_
          obtain ⟨g53, hg53⟩ : ∃ g, g = (t9.2 + (1 : Int32)) := ⟨_, rfl⟩
          rw [← hg53] at hl b9
          exact k9 _ (Option.some.inj b9).symm _ _ ls ⟨hX, hS, lv_sub hl [1, 2, 3, 0] rfl⟩
        · refine lv_icmp_eq (tgt := 251) hx hb dX3_wayOf_135 (by decide) (fun c30 => ?_) (fun c30 => ?_)
          · replace r28 := it c30 r28
            exact J28 _ _ _ ls ⟨(Option.some.inj r28).symm, hX, hS, lv_sub hl [0, 1, 2, 3] rfl⟩
          · replace r28 := ie c30 r28
            refine lv_aload_n hx hb dX3_wayOf_138 rfl (lv_at hl 0 rfl) ?_
            refine m_ga (k := 16) (d := 1) C q1714 rfl (by decide) hX dX3_wayOf_139 ?_
            refine lv_iload hx hb dX3_wayOf_142 (lv_at hl 4 rfl) ?_
            refine lv_iconst (v := 1) hx hb dX3_wayOf_144 (by decide) ?_
            obtain ⟨x31, e31, r28⟩ := ob r28
            refine m_zs (k := 16) C rfl hX hS e31 dX3_wayOf_145 (fun H locs hX hS => ?_)
            refine lv_iconst (v := 0) hx hb dX3_wayOf_146 (by decide) ?_
            refine lv_istore (lv' := [(7, .int (0 : Int32)), (0, .ref (zh G)), (2, .int a2), (3, .int a3), (5, .int t9.2), (6, .int z15)]) hx hb dX3_wayOf_147 hl (by decide) rfl (fun ls hl => ?_)
            obtain ⟨z34, e34, r28⟩ := ob r28
            refine m_join (I := fun (_ : Unit) H locs ls => mX G z34 H ∧ va_S (zA G) s.heap H locs ∧ lv_has ls 9 [(0, .ref (zh G)), (2, .int a2), (3, .int a3), (5, .int t9.2)]) 251 (fun _ => []) (fun _ H locs ls hi => ?_) (fun J32_251 => ?_)
            · obtain ⟨hX, hS, hl⟩ := hi
              exact J28 _ _ _ ls ⟨(Option.some.inj r28).symm, hX, hS, hl⟩
            refine m_loop e34 (fun (t32 : mS × Int32) H locs ls => mX G t32.1 H ∧ va_S (zA G) s.heap H locs ∧ lv_has ls 9 [(0, .ref (zh G)), (2, .int a2), (3, .int a3), (5, .int t9.2), (6, .int z15), (7, .int t32.2)]) 149 ⟨hX, hS, lv_sub hl [1, 2, 3, 4, 5, 0] rfl⟩ (fun t32 y32 b32 w32 k32 H locs ls hi => ?_)
            obtain ⟨hX, hS, hl⟩ := hi
            unfold fm_wayOf_l149 at b32
            refine lv_iload hx hb dX3_wayOf_149 (lv_at hl 5 rfl) ?_
            refine lv_aload_n hx hb dX3_wayOf_151 rfl (lv_at hl 0 rfl) ?_
            refine m_gi (k := 2) C q1700 rfl hX dX3_wayOf_152 ?_
            refine lv_icmp_ge (tgt := 251) hx hb dX3_wayOf_155 (by decide) (fun c35 => ?_) (fun c35 => ?_)
            · replace b32 := it c35 b32
              replace b32 := lx b32 w32
              subst b32
              exact J32_251 () _ _ ls ⟨hX, hS, lv_sub hl [0, 1, 2, 3] rfl⟩
            · replace b32 := ie c35 b32
              refine lv_aload_n hx hb dX3_wayOf_158 rfl (lv_at hl 0 rfl) ?_
              refine m_ga (k := 3) (d := 0) C q1701 rfl (by decide) hX dX3_wayOf_159 ?_
              refine lv_iload hx hb dX3_wayOf_162 (lv_at hl 5 rfl) ?_
              obtain ⟨x36, e36, b32⟩ := ob b32
              refine m_ia (k := 3) C rfl hX e36 dX3_wayOf_164 ?_
              refine lv_iload hx hb dX3_wayOf_165 (lv_at hl 4 rfl) ?_
              obtain ⟨x37, r37, b32⟩ := ob b32
              refine m_join (I := fun (t38 : Int32) H locs ls => x37 = t38 ∧ mX G t32.1 H ∧ va_S (zA G) s.heap H locs ∧ lv_has ls 9 [(0, .ref (zh G)), (2, .int a2), (3, .int a3), (5, .int t9.2), (6, .int z15), (7, .int t32.2)]) 189 (fun t38 => [.int t38]) (fun t38 H locs ls hi => ?_) (fun J37 => ?_)
              · obtain ⟨rfl, hX, hS, hl⟩ := hi
                unfold fm_wayOf_k189 at b32
                refine lv_istore (lv' := [(8, .int x37), (0, .ref (zh G)), (2, .int a2), (3, .int a3), (5, .int t9.2), (6, .int z15), (7, .int t32.2)]) hx hb dX3_wayOf_189 hl (by decide) rfl (fun ls hl => ?_)
                refine lv_iload hx hb dX3_wayOf_191 (lv_at hl 0 rfl) ?_
                refine lv_bipush (v := -5) hx hb dX3_wayOf_193 (by decide) ?_
                obtain ⟨x42, r42, b32⟩ := ob b32
                refine m_join (I := fun (t43 : mS) H locs ls => x42 = t43 ∧ mX G t43 H ∧ va_S (zA G) s.heap H locs ∧ lv_has ls 9 [(0, .ref (zh G)), (2, .int a2), (3, .int a3), (5, .int t9.2), (6, .int z15), (7, .int t32.2)]) 245 (fun t43 => []) (fun t43 H locs ls hi => ?_) (fun J42 => ?_)
                · obtain ⟨rfl, hX, hS, hl⟩ := hi
                  refine lv_iinc (v := (t32.2 + (1 : Int32))) (k := 5) (lv' := [(7, .int (t32.2 + (1 : Int32))), (0, .ref (zh G)), (2, .int a2), (3, .int a3), (5, .int t9.2), (6, .int z15)]) hx hb dX3_wayOf_245 hl rfl rfl (by decide) rfl (fun ls hl => ?_)
                  refine lv_goto (tgt := 149) hx hb dX3_wayOf_248 (by decide) ?_
                  obtain ⟨g52, hg52⟩ : ∃ g, g = (t32.2 + (1 : Int32)) := ⟨_, rfl⟩
                  rw [← hg52] at hl b32
                  exact k32 _ (Option.some.inj b32).symm _ _ ls ⟨hX, hS, lv_sub hl [1, 2, 3, 4, 5, 0] rfl⟩
                · refine lv_icmp_eq (tgt := 245) hx hb dX3_wayOf_195 (by decide) (fun c44 => ?_) (fun c44 => ?_)
                  · replace r42 := it c44 r42
                    exact J42 _ _ _ ls ⟨(Option.some.inj r42).symm, hX, hS, lv_sub hl [1, 2, 3, 4, 5, 6] rfl⟩
                  · replace r42 := ie c44 r42
                    refine lv_aload_n hx hb dX3_wayOf_198 rfl (lv_at hl 1 rfl) ?_
                    refine m_ga (k := 15) (d := 0) C q1713 rfl (by decide) hX dX3_wayOf_199 ?_
                    refine lv_iload hx hb dX3_wayOf_202 (lv_at hl 5 rfl) ?_
                    obtain ⟨x45, e45, r42⟩ := ob r42
                    refine m_ia (k := 15) C rfl hX e45 dX3_wayOf_204 ?_
                    refine lv_iload hx hb dX3_wayOf_205 (lv_at hl 0 rfl) ?_
                    refine lv_iadd hx hb dX3_wayOf_207 ?_
                    refine lv_aload_n hx hb dX3_wayOf_208 rfl (lv_at hl 1 rfl) ?_
                    refine m_ga (k := 15) (d := 0) C q1713 rfl (by decide) hX dX3_wayOf_209 ?_
                    refine lv_aload_n hx hb dX3_wayOf_212 rfl (lv_at hl 1 rfl) ?_
                    refine m_ga (k := 4) (d := 0) C q1702 rfl (by decide) hX dX3_wayOf_213 ?_
                    refine lv_iload hx hb dX3_wayOf_216 (lv_at hl 6 rfl) ?_
                    obtain ⟨x46, e46, r42⟩ := ob r42
                    refine m_ia (k := 4) C rfl hX e46 dX3_wayOf_218 ?_
                    obtain ⟨x47, e47, r42⟩ := ob r42
                    refine m_ia (k := 15) C rfl hX e47 dX3_wayOf_219 ?_
                    refine lv_icmp_ge (tgt := 245) hx hb dX3_wayOf_220 (by decide) (fun c48 => ?_) (fun c48 => ?_)
                    · replace r42 := it c48 r42
                      exact J42 _ _ _ ls ⟨(Option.some.inj r42).symm, hX, hS, lv_sub hl [1, 2, 3, 4, 5, 6] rfl⟩
                    · replace r42 := ie c48 r42
                      refine lv_aload_n hx hb dX3_wayOf_223 rfl (lv_at hl 1 rfl) ?_
                      refine m_ga (k := 15) (d := 0) C q1713 rfl (by decide) hX dX3_wayOf_224 ?_
                      refine lv_aload_n hx hb dX3_wayOf_227 rfl (lv_at hl 1 rfl) ?_
                      refine m_ga (k := 4) (d := 0) C q1702 rfl (by decide) hX dX3_wayOf_228 ?_
                      refine lv_iload hx hb dX3_wayOf_231 (lv_at hl 6 rfl) ?_
                      obtain ⟨x49, e49, r42⟩ := ob r42
                      refine m_ia (k := 4) C rfl hX e49 dX3_wayOf_233 ?_
                      refine lv_aload_n hx hb dX3_wayOf_234 rfl (lv_at hl 1 rfl) ?_
                      refine m_ga (k := 15) (d := 0) C q1713 rfl (by decide) hX dX3_wayOf_235 ?_
                      refine lv_iload hx hb dX3_wayOf_238 (lv_at hl 5 rfl) ?_
                      obtain ⟨x50, e50, r42⟩ := ob r42
                      refine m_ia (k := 15) C rfl hX e50 dX3_wayOf_240 ?_
                      refine lv_iload hx hb dX3_wayOf_241 (lv_at hl 0 rfl) ?_
                      refine lv_iadd hx hb dX3_wayOf_243 ?_
                      obtain ⟨x51, e51, r42⟩ := ob r42
                      refine m_is (k := 15) C rfl hX hS e51 dX3_wayOf_244 (fun H locs hX hS => ?_)
                      exact J42 _ _ _ ls ⟨(Option.some.inj r42).symm, hX, hS, lv_sub hl [1, 2, 3, 4, 5, 6] rfl⟩
              · refine lv_icmp_ne (tgt := 187) hx hb dX3_wayOf_167 (by decide) (fun c39 => ?_) (fun c39 => ?_)
                · replace r37 := ie c39 r37
                  refine lv_bipush (v := -5) hx hb dX3_wayOf_187 (by decide) ?_
                  exact J37 _ _ _ ls ⟨(Option.some.inj r37).symm, hX, hS, hl⟩
                · replace r37 := it c39 r37
                  refine lv_aload_n hx hb dX3_wayOf_170 rfl (lv_at hl 0 rfl) ?_
                  refine lv_iload hx hb dX3_wayOf_171 (lv_at hl 5 rfl) ?_
                  refine lv_iload_n hx hb dX3_wayOf_173 rfl (lv_at hl 2 rfl) ?_
                  refine lv_aload_n hx hb dX3_wayOf_174 rfl (lv_at hl 0 rfl) ?_
                  refine m_ga (k := 15) (d := 0) C q1713 rfl (by decide) hX dX3_wayOf_175 ?_
                  refine lv_iload hx hb dX3_wayOf_178 (lv_at hl 4 rfl) ?_
                  obtain ⟨x40, e40, r37⟩ := ob r37
                  refine m_ia (k := 15) C rfl hX e40 dX3_wayOf_180 ?_
                  obtain ⟨x41, e41, r37⟩ := ob r37
                  refine m_cvi (As := [.int t32.2, .int a3, .int x40]) (rest := []) C hX hS hl.1 (cm_takesOf l G hG t32.1 t32.2 a3 x40 e41) (cwV 3 hts (lw_V q2071 q2073 qs60 q109 q2074) rfl rfl rfl (by decide +kernel) ⟨Nat.le_of_ble_eq_true rfl, Nat.le_of_ble_eq_true rfl⟩) rfl rfl (Nat.le_of_ble_eq_true rfl) dX3_wayOf_181 (fun H locs hX hS => ?_)
                  refine lv_goto (tgt := 189) hx hb dX3_wayOf_184 (by decide) ?_
                  exact J37 _ _ _ ls ⟨(Option.some.inj r37).symm, hX, hS, hl⟩
      refine m_loop e15 (fun (t13 : Int32 × Int32) H locs ls => mX G t9.1 H ∧ va_S (zA G) s.heap H locs ∧ lv_has ls 9 [(0, .ref (zh G)), (2, .int a2), (3, .int a3), (5, .int t9.2), (6, .int t13.1), (7, .int t13.2)]) 61 ⟨hX, hS, lv_sub hl [2, 3, 4, 5, 1, 0] rfl⟩ (fun t13 y13 b13 w13 k13 H locs ls hi => ?_)
      obtain ⟨hX, hS, hl⟩ := hi
      unfold fm_wayOf_l61 at b13
      refine lv_iload hx hb dX3_wayOf_61 (lv_at hl 5 rfl) ?_
      refine lv_aload_n hx hb dX3_wayOf_63 rfl (lv_at hl 0 rfl) ?_
      refine m_gi (k := 0) C q1698 rfl hX dX3_wayOf_64 ?_
      refine lv_icmp_ge (tgt := 131) hx hb dX3_wayOf_67 (by decide) (fun c16 => ?_) (fun c16 => ?_)
      · replace b13 := it c16 b13
        replace b13 := lx b13 w13
        subst b13
        exact J13_131 () _ _ ls ⟨hX, hS, lv_sub hl [0, 1, 2, 3, 4] rfl⟩
      · replace b13 := ie c16 b13
        refine lv_aload_n hx hb dX3_wayOf_70 rfl (lv_at hl 0 rfl) ?_
        refine m_ga (k := 16) (d := 1) C q1714 rfl (by decide) hX dX3_wayOf_71 ?_
        refine lv_iload hx hb dX3_wayOf_74 (lv_at hl 5 rfl) ?_
        obtain ⟨x17, e17, b13⟩ := ob b13
        refine m_za (k := 16) C rfl hX e17 dX3_wayOf_76 ?_
        obtain ⟨x18, r18, b13⟩ := ob b13
        refine m_join (I := fun (t19 : Int32) H locs ls => x18 = t19 ∧ mX G t9.1 H ∧ va_S (zA G) s.heap H locs ∧ lv_has ls 9 [(0, .ref (zh G)), (2, .int a2), (3, .int a3), (5, .int t9.2), (7, .int t13.2)]) 123 (fun t19 => [.int t19]) (fun t19 H locs ls hi => ?_) (fun J18 => ?_)
        · obtain ⟨rfl, hX, hS, hl⟩ := hi
          refine lv_istore (lv' := [(6, .int x18), (0, .ref (zh G)), (2, .int a2), (3, .int a3), (5, .int t9.2), (7, .int t13.2)]) hx hb dX3_wayOf_123 hl (by decide) rfl (fun ls hl => ?_)
          refine lv_iinc (v := (t13.2 + (1 : Int32))) (k := 5) (lv' := [(7, .int (t13.2 + (1 : Int32))), (6, .int x18), (0, .ref (zh G)), (2, .int a2), (3, .int a3), (5, .int t9.2)]) hx hb dX3_wayOf_125 hl rfl rfl (by decide) rfl (fun ls hl => ?_)
          refine lv_goto (tgt := 61) hx hb dX3_wayOf_128 (by decide) ?_
          obtain ⟨g27, hg27⟩ : ∃ g, g = (t13.2 + (1 : Int32)) := ⟨_, rfl⟩
          rw [← hg27] at hl b13
          exact k13 _ (Option.some.inj b13).symm _ _ ls ⟨hX, hS, lv_sub hl [2, 3, 4, 5, 1, 0] rfl⟩
        · refine lv_if_ne (tgt := 121) hx hb dX3_wayOf_77 (by decide) (fun c20 => ?_) (fun c20 => ?_)
          · replace r18 := ie c20 r18
            refine lv_iload hx hb dX3_wayOf_121 (lv_at hl 4 rfl) ?_
            exact J18 _ _ _ ls ⟨(Option.some.inj r18).symm, hX, hS, lv_sub hl [0, 1, 2, 3, 5] rfl⟩
          · replace r18 := it c20 r18
            refine lv_aload_n hx hb dX3_wayOf_80 rfl (lv_at hl 0 rfl) ?_
            refine m_ga (k := 15) (d := 0) C q1713 rfl (by decide) hX dX3_wayOf_81 ?_
            refine lv_iload hx hb dX3_wayOf_84 (lv_at hl 5 rfl) ?_
            obtain ⟨x21, e21, r18⟩ := ob r18
            refine m_ia (k := 15) C rfl hX e21 dX3_wayOf_86 ?_
            refine lv_bipush (v := 96) hx hb dX3_wayOf_87 (by decide) ?_
            refine lv_icmp_ge (tgt := 121) hx hb dX3_wayOf_89 (by decide) (fun c22 => ?_) (fun c22 => ?_)
            · replace r18 := it c22 r18
              refine lv_iload hx hb dX3_wayOf_121 (lv_at hl 4 rfl) ?_
              exact J18 _ _ _ ls ⟨(Option.some.inj r18).symm, hX, hS, lv_sub hl [0, 1, 2, 3, 5] rfl⟩
            · replace r18 := ie c22 r18
              refine lv_iload hx hb dX3_wayOf_92 (lv_at hl 4 rfl) ?_
              refine lv_bipush (v := -4) hx hb dX3_wayOf_94 (by decide) ?_
              refine lv_icmp_eq (tgt := 116) hx hb dX3_wayOf_96 (by decide) (fun c23 => ?_) (fun c23 => ?_)
              · replace r18 := it c23 r18
                refine lv_iload hx hb dX3_wayOf_116 (lv_at hl 5 rfl) ?_
                refine lv_goto (tgt := 123) hx hb dX3_wayOf_118 (by decide) ?_
                exact J18 _ _ _ ls ⟨(Option.some.inj r18).symm, hX, hS, lv_sub hl [0, 1, 2, 3, 5] rfl⟩
              · replace r18 := ie c23 r18
                refine lv_aload_n hx hb dX3_wayOf_99 rfl (lv_at hl 0 rfl) ?_
                refine m_ga (k := 15) (d := 0) C q1713 rfl (by decide) hX dX3_wayOf_100 ?_
                refine lv_iload hx hb dX3_wayOf_103 (lv_at hl 5 rfl) ?_
                obtain ⟨x24, e24, r18⟩ := ob r18
                refine m_ia (k := 15) C rfl hX e24 dX3_wayOf_105 ?_
                refine lv_aload_n hx hb dX3_wayOf_106 rfl (lv_at hl 0 rfl) ?_
                refine m_ga (k := 15) (d := 0) C q1713 rfl (by decide) hX dX3_wayOf_107 ?_
                refine lv_iload hx hb dX3_wayOf_110 (lv_at hl 4 rfl) ?_
                obtain ⟨x25, e25, r18⟩ := ob r18
                refine m_ia (k := 15) C rfl hX e25 dX3_wayOf_112 ?_
                refine lv_icmp_ge (tgt := 121) hx hb dX3_wayOf_113 (by decide) (fun c26 => ?_) (fun c26 => ?_)
                · replace r18 := it c26 r18
                  refine lv_iload hx hb dX3_wayOf_121 (lv_at hl 4 rfl) ?_
                  exact J18 _ _ _ ls ⟨(Option.some.inj r18).symm, hX, hS, lv_sub hl [0, 1, 2, 3, 5] rfl⟩
                · replace r18 := ie c26 r18
                  refine lv_iload hx hb dX3_wayOf_116 (lv_at hl 5 rfl) ?_
                  refine lv_goto (tgt := 123) hx hb dX3_wayOf_118 (by decide) ?_
                  exact J18 _ _ _ ls ⟨(Option.some.inj r18).symm, hX, hS, lv_sub hl [0, 1, 2, 3, 5] rfl⟩
  refine m_loop e3 (fun (t1 : mS × Int32) H locs ls => mX G t1.1 H ∧ va_S (zA G) s.heap H locs ∧ lv_has ls 9 [(0, .ref (zh G)), (1, .int a1), (2, .int a2), (3, .int a3), (4, .int a4), (5, .int t1.2)]) 3 ⟨hX, hS, lv_sub hl [1, 2, 3, 4, 5, 0] rfl⟩ (fun t1 y1 b1 w1 k1 H locs ls hi => ?_)
  obtain ⟨hX, hS, hl⟩ := hi
  unfold fm_wayOf_l3 at b1
  refine lv_iload hx hb dX3_wayOf_3 (lv_at hl 5 rfl) ?_
  refine lv_bipush (v := 12) hx hb dX3_wayOf_5 (by decide) ?_
  refine lv_icmp_ge (tgt := 34) hx hb dX3_wayOf_7 (by decide) (fun c4 => ?_) (fun c4 => ?_)
  · replace b1 := it c4 b1
    replace b1 := lx b1 w1
    subst b1
    exact J1_34 () _ _ ls ⟨hX, hS, lv_sub hl [0, 1, 2, 3, 4] rfl⟩
  · replace b1 := ie c4 b1
    refine lv_aload_n hx hb dX3_wayOf_10 rfl (lv_at hl 0 rfl) ?_
    refine m_ga (k := 15) (d := 0) C q1713 rfl (by decide) hX dX3_wayOf_11 ?_
    refine lv_iload hx hb dX3_wayOf_14 (lv_at hl 5 rfl) ?_
    refine lv_sipush (v := 1000) hx hb dX3_wayOf_16 (by decide) ?_
    obtain ⟨x5, e5, b1⟩ := ob b1
    refine m_is (k := 15) C rfl hX hS e5 dX3_wayOf_19 (fun H locs hX hS => ?_)
    refine lv_aload_n hx hb dX3_wayOf_20 rfl (lv_at hl 0 rfl) ?_
    refine m_ga (k := 16) (d := 1) C q1714 rfl (by decide) hX dX3_wayOf_21 ?_
    refine lv_iload hx hb dX3_wayOf_24 (lv_at hl 5 rfl) ?_
    refine lv_iconst (v := 0) hx hb dX3_wayOf_26 (by decide) ?_
    obtain ⟨x6, e6, b1⟩ := ob b1
    refine m_zs (k := 16) C rfl hX hS e6 dX3_wayOf_27 (fun H locs hX hS => ?_)
    refine lv_iinc (v := (t1.2 + (1 : Int32))) (k := 5) (lv' := [(5, .int (t1.2 + (1 : Int32))), (0, .ref (zh G)), (1, .int a1), (2, .int a2), (3, .int a3), (4, .int a4)]) hx hb dX3_wayOf_28 hl rfl rfl (by decide) rfl (fun ls hl => ?_)
    refine lv_goto (tgt := 3) hx hb dX3_wayOf_31 (by decide) ?_
    obtain ⟨g7, hg7⟩ : ∃ g, g = (t1.2 + (1 : Int32)) := ⟨_, rfl⟩
    rw [← hg7] at hl b1
    exact k1 _ (Option.some.inj b1).symm _ _ ls ⟨hX, hS, lv_sub hl [1, 2, 3, 4, 5, 0] rfl⟩

def fm_way (S : mS) (a1 : Int32) (a2 : Int32) (a3 : Int32) (a4 : Int32) : Option (mS × Int32) :=
  (if (fm_isPlace S a1) = 0 then
  some (S, (-1 : Int32))
  else
  (if (fm_isPlace S a2) = 0 then
  some (S, (-1 : Int32))
  else
  (if (fm_in a3.toInt64 (0 : Int64) (9 : Int64)) = 0 then
  some (S, (-1 : Int32))
  else
  (if (fm_in a4.toInt64 (0 : Int64) (95 : Int64)) = 0 then
  some (S, (-1 : Int32))
  else
  (fm_wayOf S a1 a2 a3 a4).bind fun x5 =>
  some (x5.1, x5.2)))))
set_option maxHeartbeats 4000000 in
set_option maxRecDepth 100000 in
theorem cm_way (l : Launch) (G : mGh) (hG : mOk G) (S : mS) (a1 : Int32) (a2 : Int32) (a3 : Int32) (a4 : Int32) {S' : mS} {r : Int32} (hr : fm_way S a1 a2 a3 a4 = some (S', r)) : Met l yX3_way (ws_ yX3_way cX3_way 5 (some .int)) ({ frames := 4, cells := 0, slots := 0, locals := 103 } : Room) (mPc G [.int a1, .int a2, .int a3, .int a4] S) (mQi G r S') 0 0 (zA G) := by
  refine m_met cX3_way (by decide) rfl hG (Nat.le_of_ble_eq_true rfl) (fun p e s m args below meth c C hret hlk ls hX hl => ?_)
  have hx := C.1.1
  have hb := C.1.2.1
  have hown := C.1.2.2.2.1
  have hts := C.1.2.2.2.2
  have hS : va_S (zA G) s.heap s.heap [] := va_S.rf
  have hl : lv_has ls 5 [(0, .ref (zh G)), (1, .int a1), (2, .int a2), (3, .int a3), (4, .int a4)] := hl
  unfold fm_way at hr
  refine lv_aload_n hx hb dX3_way_0 rfl (lv_at hl 0 rfl) ?_
  refine lv_iload_n hx hb dX3_way_1 rfl (lv_at hl 1 rfl) ?_
  refine m_cvi (As := [.int a1]) (rest := []) C hX hS hl.1 (cm_isPlace l G hG S a1 rfl) (cwV 1 hts (lw_V q1981 q1983 qs50 q109 q1984) rfl rfl rfl (by decide +kernel) ⟨Nat.le_of_ble_eq_true rfl, Nat.le_of_ble_eq_true rfl⟩) rfl rfl (Nat.le_of_ble_eq_true rfl) dX3_way_2 (fun H locs hX hS => ?_)
  refine lv_if_eq (tgt := 53) hx hb dX3_way_5 (by decide) (fun c1 => ?_) (fun c1 => ?_)
  · replace hr := it c1 hr
    refine lv_iconst (v := -1) hx hb dX3_way_53 (by decide) ?_
    exact m_riw (C := C) hret hlk hX hS (Option.some.inj hr) dX3_way_54
  · replace hr := ie c1 hr
    refine lv_aload_n hx hb dX3_way_8 rfl (lv_at hl 0 rfl) ?_
    refine lv_iload_n hx hb dX3_way_9 rfl (lv_at hl 2 rfl) ?_
    refine m_cvi (As := [.int a2]) (rest := []) C hX hS hl.1 (cm_isPlace l G hG S a2 rfl) (cwV 1 hts (lw_V q1981 q1983 qs50 q109 q1984) rfl rfl rfl (by decide +kernel) ⟨Nat.le_of_ble_eq_true rfl, Nat.le_of_ble_eq_true rfl⟩) rfl rfl (Nat.le_of_ble_eq_true rfl) dX3_way_10 (fun H locs hX hS => ?_)
    refine lv_if_eq (tgt := 53) hx hb dX3_way_13 (by decide) (fun c2 => ?_) (fun c2 => ?_)
    · replace hr := it c2 hr
      refine lv_iconst (v := -1) hx hb dX3_way_53 (by decide) ?_
      exact m_riw (C := C) hret hlk hX hS (Option.some.inj hr) dX3_way_54
    · replace hr := ie c2 hr
      refine lv_iload_n hx hb dX3_way_16 rfl (lv_at hl 3 rfl) ?_
      refine lv_i2l (v := a3.toInt64) hx hb dX3_way_17 rfl ?_
      refine lv_lconst (v := 0) hx hb dX3_way_18 (by decide) ?_
      refine lv_ldc2 hx hb hown (hts _ q1973) dX3_way_19 ?_
      refine m_csi (As := [.long a3.toInt64, .long (0 : Int64), .long (9 : Int64)]) (rest := []) C hX hS hl.1 (cm_in l a3.toInt64 (0 : Int64) (9 : Int64) rfl) (va_cwS 3 hts (lw_S q1974 q1975 q109 q1976) rfl rfl rfl (by decide +kernel) ⟨Nat.le_of_ble_eq_true rfl, Nat.le_of_ble_eq_true rfl⟩) rfl rfl (Nat.le_of_ble_eq_true rfl) dX3_way_22 (fun H locs hX hS => ?_)
      refine lv_if_eq (tgt := 53) hx hb dX3_way_25 (by decide) (fun c3 => ?_) (fun c3 => ?_)
      · replace hr := it c3 hr
        refine lv_iconst (v := -1) hx hb dX3_way_53 (by decide) ?_
        exact m_riw (C := C) hret hlk hX hS (Option.some.inj hr) dX3_way_54
      · replace hr := ie c3 hr
        refine lv_iload hx hb dX3_way_28 (lv_at hl 4 rfl) ?_
        refine lv_i2l (v := a4.toInt64) hx hb dX3_way_30 rfl ?_
        refine lv_lconst (v := 0) hx hb dX3_way_31 (by decide) ?_
        refine lv_ldc2 hx hb hown (hts _ q2070) dX3_way_32 ?_
        refine m_csi (As := [.long a4.toInt64, .long (0 : Int64), .long (95 : Int64)]) (rest := []) C hX hS hl.1 (cm_in l a4.toInt64 (0 : Int64) (95 : Int64) rfl) (va_cwS 3 hts (lw_S q1974 q1975 q109 q1976) rfl rfl rfl (by decide +kernel) ⟨Nat.le_of_ble_eq_true rfl, Nat.le_of_ble_eq_true rfl⟩) rfl rfl (Nat.le_of_ble_eq_true rfl) dX3_way_35 (fun H locs hX hS => ?_)
        refine lv_if_eq (tgt := 53) hx hb dX3_way_38 (by decide) (fun c4 => ?_) (fun c4 => ?_)
        · replace hr := it c4 hr
          refine lv_iconst (v := -1) hx hb dX3_way_53 (by decide) ?_
          exact m_riw (C := C) hret hlk hX hS (Option.some.inj hr) dX3_way_54
        · replace hr := ie c4 hr
          refine lv_aload_n hx hb dX3_way_41 rfl (lv_at hl 0 rfl) ?_
          refine lv_iload_n hx hb dX3_way_42 rfl (lv_at hl 1 rfl) ?_
          refine lv_iload_n hx hb dX3_way_43 rfl (lv_at hl 2 rfl) ?_
          refine lv_iload_n hx hb dX3_way_44 rfl (lv_at hl 3 rfl) ?_
          refine lv_iload hx hb dX3_way_45 (lv_at hl 4 rfl) ?_
          obtain ⟨x5, e5, hr⟩ := ob hr
          refine m_cvi (As := [.int a1, .int a2, .int a3, .int a4]) (rest := []) C hX hS hl.1 (cm_wayOf l G hG S a1 a2 a3 a4 e5) (cwV 4 hts (lw_V q2091 q2093 qs62 q109 q2094) rfl rfl rfl (by decide +kernel) ⟨Nat.le_of_ble_eq_true rfl, Nat.le_of_ble_eq_true rfl⟩) rfl rfl (Nat.le_of_ble_eq_true rfl) dX3_way_47 (fun H locs hX hS => ?_)
          refine lv_goto (tgt := 54) hx hb dX3_way_50 (by decide) ?_
          exact m_riw (C := C) hret hlk hX hS (Option.some.inj hr) dX3_way_54

def fm_guide (S : mS) (a1 : Int32) (a2 : Int32) (a3 : Int32) : Option (mS × Int32) :=
  (if (fm_in a1.toInt64 (0 : Int64) (5 : Int64)) = 0 then
  some (S, (-1 : Int32))
  else
  (if (fm_in a2.toInt64 (0 : Int64) (9 : Int64)) = 0 then
  some (S, (-1 : Int32))
  else
  (if (fm_in a3.toInt64 (0 : Int64) (999 : Int64)) = 0 then
  some (S, (-1 : Int32))
  else
  (if (gI S 17) = (8 : Int32) then
  some (S, (-3 : Int32))
  else
  (tI S 18 (gI S 17) a1).bind fun x5 =>
  (tI x5 19 (gI x5 17) a2).bind fun x6 =>
  (tI x6 20 (gI x6 17) a3).bind fun x7 =>
  (tZ x7 21 (gI x7 17) (0 : Int32)).bind fun x8 =>
  (tI x8 22 (gI x8 17) (0 : Int32)).bind fun x9 =>
  (tI x9 23 (gI x9 17) (0 : Int32)).bind fun x10 =>
  (tI x10 24 (gI x10 17) (gI x10 17)).bind fun x11 =>
  (pI x11 17 ((gI x11 17) + (1 : Int32))).bind fun x12 =>
  some (x12, ((gI x12 17) - (1 : Int32)))))))
set_option maxHeartbeats 4000000 in
set_option maxRecDepth 100000 in
theorem cm_guide (l : Launch) (G : mGh) (hG : mOk G) (S : mS) (a1 : Int32) (a2 : Int32) (a3 : Int32) {S' : mS} {r : Int32} (hr : fm_guide S a1 a2 a3 = some (S', r)) : Met l yX3_guide (ws_ yX3_guide cX3_guide 4 (some .int)) ({ frames := 1, cells := 0, slots := 0, locals := 25 } : Room) (mPc G [.int a1, .int a2, .int a3] S) (mQi G r S') 0 0 (zA G) := by
  refine m_met cX3_guide (by decide) rfl hG (Nat.le_of_ble_eq_true rfl) (fun p e s m args below meth c C hret hlk ls hX hl => ?_)
  have hx := C.1.1
  have hb := C.1.2.1
  have hown := C.1.2.2.2.1
  have hts := C.1.2.2.2.2
  have hS : va_S (zA G) s.heap s.heap [] := va_S.rf
  have hl : lv_has ls 4 [(0, .ref (zh G)), (1, .int a1), (2, .int a2), (3, .int a3)] := hl
  unfold fm_guide at hr
  refine lv_iload_n hx hb dX3_guide_0 rfl (lv_at hl 1 rfl) ?_
  refine lv_i2l (v := a1.toInt64) hx hb dX3_guide_1 rfl ?_
  refine lv_lconst (v := 0) hx hb dX3_guide_2 (by decide) ?_
  refine lv_ldc2 hx hb hown (hts _ q1986) dX3_guide_3 ?_
  refine m_csi (As := [.long a1.toInt64, .long (0 : Int64), .long (5 : Int64)]) (rest := []) C hX hS hl.1 (cm_in l a1.toInt64 (0 : Int64) (5 : Int64) rfl) (va_cwS 3 hts (lw_S q1974 q1975 q109 q1976) rfl rfl rfl (by decide +kernel) ⟨Nat.le_of_ble_eq_true rfl, Nat.le_of_ble_eq_true rfl⟩) rfl rfl (Nat.le_of_ble_eq_true rfl) dX3_guide_6 (fun H locs hX hS => ?_)
  refine lv_if_eq (tgt := 36) hx hb dX3_guide_9 (by decide) (fun c1 => ?_) (fun c1 => ?_)
  · replace hr := it c1 hr
    refine lv_iconst (v := -1) hx hb dX3_guide_36 (by decide) ?_
    exact m_riw (C := C) hret hlk hX hS (Option.some.inj hr) dX3_guide_37
  · replace hr := ie c1 hr
    refine lv_iload_n hx hb dX3_guide_12 rfl (lv_at hl 2 rfl) ?_
    refine lv_i2l (v := a2.toInt64) hx hb dX3_guide_13 rfl ?_
    refine lv_lconst (v := 0) hx hb dX3_guide_14 (by decide) ?_
    refine lv_ldc2 hx hb hown (hts _ q1973) dX3_guide_15 ?_
    refine m_csi (As := [.long a2.toInt64, .long (0 : Int64), .long (9 : Int64)]) (rest := []) C hX hS hl.1 (cm_in l a2.toInt64 (0 : Int64) (9 : Int64) rfl) (va_cwS 3 hts (lw_S q1974 q1975 q109 q1976) rfl rfl rfl (by decide +kernel) ⟨Nat.le_of_ble_eq_true rfl, Nat.le_of_ble_eq_true rfl⟩) rfl rfl (Nat.le_of_ble_eq_true rfl) dX3_guide_18 (fun H locs hX hS => ?_)
    refine lv_if_eq (tgt := 36) hx hb dX3_guide_21 (by decide) (fun c2 => ?_) (fun c2 => ?_)
    · replace hr := it c2 hr
      refine lv_iconst (v := -1) hx hb dX3_guide_36 (by decide) ?_
      exact m_riw (C := C) hret hlk hX hS (Option.some.inj hr) dX3_guide_37
    · replace hr := ie c2 hr
      refine lv_iload_n hx hb dX3_guide_24 rfl (lv_at hl 3 rfl) ?_
      refine lv_i2l (v := a3.toInt64) hx hb dX3_guide_25 rfl ?_
      refine lv_lconst (v := 0) hx hb dX3_guide_26 (by decide) ?_
      refine lv_ldc2 hx hb hown (hts _ q2099) dX3_guide_27 ?_
      refine m_csi (As := [.long a3.toInt64, .long (0 : Int64), .long (999 : Int64)]) (rest := []) C hX hS hl.1 (cm_in l a3.toInt64 (0 : Int64) (999 : Int64) rfl) (va_cwS 3 hts (lw_S q1974 q1975 q109 q1976) rfl rfl rfl (by decide +kernel) ⟨Nat.le_of_ble_eq_true rfl, Nat.le_of_ble_eq_true rfl⟩) rfl rfl (Nat.le_of_ble_eq_true rfl) dX3_guide_30 (fun H locs hX hS => ?_)
      refine lv_if_ne (tgt := 38) hx hb dX3_guide_33 (by decide) (fun c3 => ?_) (fun c3 => ?_)
      · replace hr := ie c3 hr
        refine lv_aload_n hx hb dX3_guide_38 rfl (lv_at hl 0 rfl) ?_
        refine m_gi (k := 17) C q1715 rfl hX dX3_guide_39 ?_
        refine lv_bipush (v := 8) hx hb dX3_guide_42 (by decide) ?_
        refine lv_icmp_ne (tgt := 50) hx hb dX3_guide_44 (by decide) (fun c4 => ?_) (fun c4 => ?_)
        · replace hr := ie c4 hr
          refine lv_aload_n hx hb dX3_guide_50 rfl (lv_at hl 0 rfl) ?_
          refine m_ga (k := 18) (d := 0) C q1716 rfl (by decide) hX dX3_guide_51 ?_
          refine lv_aload_n hx hb dX3_guide_54 rfl (lv_at hl 0 rfl) ?_
          refine m_gi (k := 17) C q1715 rfl hX dX3_guide_55 ?_
          refine lv_iload_n hx hb dX3_guide_58 rfl (lv_at hl 1 rfl) ?_
          obtain ⟨x5, e5, hr⟩ := ob hr
          refine m_is (k := 18) C rfl hX hS e5 dX3_guide_59 (fun H locs hX hS => ?_)
          refine lv_aload_n hx hb dX3_guide_60 rfl (lv_at hl 0 rfl) ?_
          refine m_ga (k := 19) (d := 0) C q1717 rfl (by decide) hX dX3_guide_61 ?_
          refine lv_aload_n hx hb dX3_guide_64 rfl (lv_at hl 0 rfl) ?_
          refine m_gi (k := 17) C q1715 rfl hX dX3_guide_65 ?_
          refine lv_iload_n hx hb dX3_guide_68 rfl (lv_at hl 2 rfl) ?_
          obtain ⟨x6, e6, hr⟩ := ob hr
          refine m_is (k := 19) C rfl hX hS e6 dX3_guide_69 (fun H locs hX hS => ?_)
          refine lv_aload_n hx hb dX3_guide_70 rfl (lv_at hl 0 rfl) ?_
          refine m_ga (k := 20) (d := 0) C q1718 rfl (by decide) hX dX3_guide_71 ?_
          refine lv_aload_n hx hb dX3_guide_74 rfl (lv_at hl 0 rfl) ?_
          refine m_gi (k := 17) C q1715 rfl hX dX3_guide_75 ?_
          refine lv_iload_n hx hb dX3_guide_78 rfl (lv_at hl 3 rfl) ?_
          obtain ⟨x7, e7, hr⟩ := ob hr
          refine m_is (k := 20) C rfl hX hS e7 dX3_guide_79 (fun H locs hX hS => ?_)
          refine lv_aload_n hx hb dX3_guide_80 rfl (lv_at hl 0 rfl) ?_
          refine m_ga (k := 21) (d := 1) C q1719 rfl (by decide) hX dX3_guide_81 ?_
          refine lv_aload_n hx hb dX3_guide_84 rfl (lv_at hl 0 rfl) ?_
          refine m_gi (k := 17) C q1715 rfl hX dX3_guide_85 ?_
          refine lv_iconst (v := 0) hx hb dX3_guide_88 (by decide) ?_
          obtain ⟨x8, e8, hr⟩ := ob hr
          refine m_zs (k := 21) C rfl hX hS e8 dX3_guide_89 (fun H locs hX hS => ?_)
          refine lv_aload_n hx hb dX3_guide_90 rfl (lv_at hl 0 rfl) ?_
          refine m_ga (k := 22) (d := 0) C q1720 rfl (by decide) hX dX3_guide_91 ?_
          refine lv_aload_n hx hb dX3_guide_94 rfl (lv_at hl 0 rfl) ?_
          refine m_gi (k := 17) C q1715 rfl hX dX3_guide_95 ?_
          refine lv_iconst (v := 0) hx hb dX3_guide_98 (by decide) ?_
          obtain ⟨x9, e9, hr⟩ := ob hr
          refine m_is (k := 22) C rfl hX hS e9 dX3_guide_99 (fun H locs hX hS => ?_)
          refine lv_aload_n hx hb dX3_guide_100 rfl (lv_at hl 0 rfl) ?_
          refine m_ga (k := 23) (d := 0) C q1721 rfl (by decide) hX dX3_guide_101 ?_
          refine lv_aload_n hx hb dX3_guide_104 rfl (lv_at hl 0 rfl) ?_
          refine m_gi (k := 17) C q1715 rfl hX dX3_guide_105 ?_
          refine lv_iconst (v := 0) hx hb dX3_guide_108 (by decide) ?_
          obtain ⟨x10, e10, hr⟩ := ob hr
          refine m_is (k := 23) C rfl hX hS e10 dX3_guide_109 (fun H locs hX hS => ?_)
          refine lv_aload_n hx hb dX3_guide_110 rfl (lv_at hl 0 rfl) ?_
          refine m_ga (k := 24) (d := 0) C q1722 rfl (by decide) hX dX3_guide_111 ?_
          refine lv_aload_n hx hb dX3_guide_114 rfl (lv_at hl 0 rfl) ?_
          refine m_gi (k := 17) C q1715 rfl hX dX3_guide_115 ?_
          refine lv_aload_n hx hb dX3_guide_118 rfl (lv_at hl 0 rfl) ?_
          refine m_gi (k := 17) C q1715 rfl hX dX3_guide_119 ?_
          obtain ⟨x11, e11, hr⟩ := ob hr
          refine m_is (k := 24) C rfl hX hS e11 dX3_guide_122 (fun H locs hX hS => ?_)
          refine lv_aload_n hx hb dX3_guide_123 rfl (lv_at hl 0 rfl) ?_
          refine lv_dup hx hb dX3_guide_124 rfl ?_
          refine m_gi (k := 17) C q1715 rfl hX dX3_guide_125 ?_
          refine lv_iconst (v := 1) hx hb dX3_guide_128 (by decide) ?_
          refine lv_iadd hx hb dX3_guide_129 ?_
          obtain ⟨x12, e12, hr⟩ := ob hr
          refine m_pi (k := 17) C q1715 rfl hX hS e12 dX3_guide_130 (fun H locs hX hS => ?_)
          refine lv_aload_n hx hb dX3_guide_133 rfl (lv_at hl 0 rfl) ?_
          refine m_gi (k := 17) C q1715 rfl hX dX3_guide_134 ?_
          refine lv_iconst (v := 1) hx hb dX3_guide_137 (by decide) ?_
          refine lv_isub hx hb dX3_guide_138 ?_
          exact m_riw (C := C) hret hlk hX hS (Option.some.inj hr) dX3_guide_139
        · replace hr := it c4 hr
          refine lv_bipush (v := -3) hx hb dX3_guide_47 (by decide) ?_
          exact m_riw (C := C) hret hlk hX hS (Option.some.inj hr) dX3_guide_49
      · replace hr := it c3 hr
        refine lv_iconst (v := -1) hx hb dX3_guide_36 (by decide) ?_
        exact m_riw (C := C) hret hlk hX hS (Option.some.inj hr) dX3_guide_37

def fm_isGuide (S : mS) (a1 : Int32) : Int32 :=
  (fm_in a1.toInt64 (0 : Int64) (((gI S 17) - (1 : Int32)).toInt64))
theorem bm_isGuide (S : mS) (a1 : Int32) : fm_isGuide S a1 = 0 ∨ fm_isGuide S a1 = 1 := by
  unfold fm_isGuide
  (repeat' split) <;> first | exact Or.inl rfl | exact Or.inr rfl | (apply bm_in)
set_option maxHeartbeats 4000000 in
set_option maxRecDepth 100000 in
theorem cm_isGuide (l : Launch) (G : mGh) (hG : mOk G) (S : mS) (a1 : Int32) {r : Int32} (hr : fm_isGuide S a1 = r) : Met l yX3_isGuide (ws_ yX3_isGuide cX3_isGuide 2 (some .boolean)) ({ frames := 1, cells := 0, slots := 0, locals := 25 } : Room) (mPc G [.int a1] S) (mQi G r S) 0 0 (zA G) := by
  refine m_met cX3_isGuide (by decide) rfl hG (Nat.le_of_ble_eq_true rfl) (fun p e s m args below meth c C hret hlk ls hX hl => ?_)
  have hx := C.1.1
  have hb := C.1.2.1
  have hown := C.1.2.2.2.1
  have hts := C.1.2.2.2.2
  have hS : va_S (zA G) s.heap s.heap [] := va_S.rf
  have hl : lv_has ls 2 [(0, .ref (zh G)), (1, .int a1)] := hl
  unfold fm_isGuide at hr
  refine lv_iload_n hx hb dX3_isGuide_0 rfl (lv_at hl 1 rfl) ?_
  refine lv_i2l (v := a1.toInt64) hx hb dX3_isGuide_1 rfl ?_
  refine lv_lconst (v := 0) hx hb dX3_isGuide_2 (by decide) ?_
  refine lv_aload_n hx hb dX3_isGuide_3 rfl (lv_at hl 0 rfl) ?_
  refine m_gi (k := 17) C q1715 rfl hX dX3_isGuide_4 ?_
  refine lv_iconst (v := 1) hx hb dX3_isGuide_7 (by decide) ?_
  refine lv_isub hx hb dX3_isGuide_8 ?_
  refine lv_i2l (v := ((gI S 17) - (1 : Int32)).toInt64) hx hb dX3_isGuide_9 rfl ?_
  refine m_csi (As := [.long a1.toInt64, .long (0 : Int64), .long (((gI S 17) - (1 : Int32)).toInt64)]) (rest := []) C hX hS hl.1 (cm_in l a1.toInt64 (0 : Int64) (((gI S 17) - (1 : Int32)).toInt64) rfl) (va_cwS 3 hts (lw_S q1974 q1975 q109 q1976) rfl rfl rfl (by decide +kernel) ⟨Nat.le_of_ble_eq_true rfl, Nat.le_of_ble_eq_true rfl⟩) rfl rfl (Nat.le_of_ble_eq_true rfl) dX3_isGuide_10 (fun H locs hX hS => ?_)
  exact m_rz (C := C) hret hlk hX hS (bm_in ..) hr dX3_isGuide_13

def fm_papers (S : mS) (a1 : Int32) (a2 : Int32) : Option (mS × Int32) :=
  (if (fm_isGuide S a1) = 0 then
  some (S, (-1 : Int32))
  else
  (if (fm_in a2.toInt64 (0 : Int64) (999 : Int64)) = 0 then
  some (S, (-1 : Int32))
  else
  (aI S 20 a1).bind fun x3 =>
  (tI S 20 a1 a2).bind fun x4 =>
  some (x4, x3)))
set_option maxHeartbeats 4000000 in
set_option maxRecDepth 100000 in
theorem cm_papers (l : Launch) (G : mGh) (hG : mOk G) (S : mS) (a1 : Int32) (a2 : Int32) {S' : mS} {r : Int32} (hr : fm_papers S a1 a2 = some (S', r)) : Met l yX3_papers (ws_ yX3_papers cX3_papers 4 (some .int)) ({ frames := 2, cells := 0, slots := 0, locals := 46 } : Room) (mPc G [.int a1, .int a2] S) (mQi G r S') 0 0 (zA G) := by
  refine m_met cX3_papers (by decide) rfl hG (Nat.le_of_ble_eq_true rfl) (fun p e s m args below meth c C hret hlk ls hX hl => ?_)
  have hx := C.1.1
  have hb := C.1.2.1
  have hown := C.1.2.2.2.1
  have hts := C.1.2.2.2.2
  have hS : va_S (zA G) s.heap s.heap [] := va_S.rf
  have hl : lv_has ls 4 [(0, .ref (zh G)), (1, .int a1), (2, .int a2)] := hl
  unfold fm_papers at hr
  refine lv_aload_n hx hb dX3_papers_0 rfl (lv_at hl 0 rfl) ?_
  refine lv_iload_n hx hb dX3_papers_1 rfl (lv_at hl 1 rfl) ?_
  refine m_cvi (As := [.int a1]) (rest := []) C hX hS hl.1 (cm_isGuide l G hG S a1 rfl) (cwV 1 hts (lw_V q2104 q2106 qs63 q109 q2107) rfl rfl rfl (by decide +kernel) ⟨Nat.le_of_ble_eq_true rfl, Nat.le_of_ble_eq_true rfl⟩) rfl rfl (Nat.le_of_ble_eq_true rfl) dX3_papers_2 (fun H locs hX hS => ?_)
  refine lv_if_eq (tgt := 20) hx hb dX3_papers_5 (by decide) (fun c1 => ?_) (fun c1 => ?_)
  · replace hr := it c1 hr
    refine lv_iconst (v := -1) hx hb dX3_papers_20 (by decide) ?_
    exact m_riw (C := C) hret hlk hX hS (Option.some.inj hr) dX3_papers_21
  · replace hr := ie c1 hr
    refine lv_iload_n hx hb dX3_papers_8 rfl (lv_at hl 2 rfl) ?_
    refine lv_i2l (v := a2.toInt64) hx hb dX3_papers_9 rfl ?_
    refine lv_lconst (v := 0) hx hb dX3_papers_10 (by decide) ?_
    refine lv_ldc2 hx hb hown (hts _ q2099) dX3_papers_11 ?_
    refine m_csi (As := [.long a2.toInt64, .long (0 : Int64), .long (999 : Int64)]) (rest := []) C hX hS hl.1 (cm_in l a2.toInt64 (0 : Int64) (999 : Int64) rfl) (va_cwS 3 hts (lw_S q1974 q1975 q109 q1976) rfl rfl rfl (by decide +kernel) ⟨Nat.le_of_ble_eq_true rfl, Nat.le_of_ble_eq_true rfl⟩) rfl rfl (Nat.le_of_ble_eq_true rfl) dX3_papers_14 (fun H locs hX hS => ?_)
    refine lv_if_ne (tgt := 22) hx hb dX3_papers_17 (by decide) (fun c2 => ?_) (fun c2 => ?_)
    · replace hr := ie c2 hr
      refine lv_aload_n hx hb dX3_papers_22 rfl (lv_at hl 0 rfl) ?_
      refine m_ga (k := 20) (d := 0) C q1718 rfl (by decide) hX dX3_papers_23 ?_
      refine lv_iload_n hx hb dX3_papers_26 rfl (lv_at hl 1 rfl) ?_
      obtain ⟨x3, e3, hr⟩ := ob hr
      refine m_ia (k := 20) C rfl hX e3 dX3_papers_27 ?_
      refine lv_istore_n (lv' := [(3, .int x3), (0, .ref (zh G)), (1, .int a1), (2, .int a2)]) hx hb dX3_papers_28 rfl hl (by decide) rfl (fun ls hl => ?_)
      refine lv_aload_n hx hb dX3_papers_29 rfl (lv_at hl 1 rfl) ?_
      refine m_ga (k := 20) (d := 0) C q1718 rfl (by decide) hX dX3_papers_30 ?_
      refine lv_iload_n hx hb dX3_papers_33 rfl (lv_at hl 2 rfl) ?_
      refine lv_iload_n hx hb dX3_papers_34 rfl (lv_at hl 3 rfl) ?_
      obtain ⟨x4, e4, hr⟩ := ob hr
      refine m_is (k := 20) C rfl hX hS e4 dX3_papers_35 (fun H locs hX hS => ?_)
      refine lv_iload_n hx hb dX3_papers_36 rfl (lv_at hl 0 rfl) ?_
      exact m_riw (C := C) hret hlk hX hS (Option.some.inj hr) dX3_papers_37
    · replace hr := it c2 hr
      refine lv_iconst (v := -1) hx hb dX3_papers_20 (by decide) ?_
      exact m_riw (C := C) hret hlk hX hS (Option.some.inj hr) dX3_papers_21

def fm_placeInList_l2 (S : mS) (a1 : Int32) (t1 : Int32) : Option ((Int32) ⊕ (Int32)) :=
  (aI S 24 t1).bind fun x4 =>
  (if x4 = a1 then
  some (.inr t1)
  else
  some (.inl (t1 + (1 : Int32))))
def fm_placeInList (S : mS) (a1 : Int32) : Option Int32 :=
  (loopO (fm_placeInList_l2 S a1) 1000000 (0 : Int32)).bind (fun z3 =>
  some z3)
set_option maxHeartbeats 4000000 in
set_option maxRecDepth 100000 in
theorem cm_placeInList (l : Launch) (G : mGh) (hG : mOk G) (S : mS) (a1 : Int32) {r : Int32} (hr : fm_placeInList S a1 = some r) : Met l yX3_placeInList (ws_ yX3_placeInList cX3_placeInList 3 (some .int)) ({ frames := 0, cells := 0, slots := 0, locals := 0 } : Room) (mPc G [.int a1] S) (mQi G r S) 0 0 (zA G) := by
  refine m_met cX3_placeInList (by decide) rfl hG (Nat.le_of_ble_eq_true rfl) (fun p e s m args below meth c C hret hlk ls hX hl => ?_)
  have hx := C.1.1
  have hb := C.1.2.1
  have hown := C.1.2.2.2.1
  have hts := C.1.2.2.2.2
  have hS : va_S (zA G) s.heap s.heap [] := va_S.rf
  have hl : lv_has ls 3 [(0, .ref (zh G)), (1, .int a1)] := hl
  unfold fm_placeInList at hr
  refine lv_iconst (v := 0) hx hb dX3_placeInList_0 (by decide) ?_
  refine lv_istore_n (lv' := [(2, .int (0 : Int32)), (0, .ref (zh G)), (1, .int a1)]) hx hb dX3_placeInList_1 rfl hl (by decide) rfl (fun ls hl => ?_)
  obtain ⟨z3, e3, hr⟩ := ob hr
  refine m_join (I := fun (_ : Unit) H locs ls => mX G S H ∧ va_S (zA G) s.heap H locs ∧ lv_has ls 3 [(2, .int z3)]) 18 (fun _ => []) (fun _ H locs ls hi => ?_) (fun J1_18 => ?_)
  · obtain ⟨hX, hS, hl⟩ := hi
    refine lv_iload_n hx hb dX3_placeInList_18 rfl (lv_at hl 0 rfl) ?_
    exact m_ri (C := C) hret hlk hX hS (Option.some.inj hr) dX3_placeInList_19
  refine m_loop e3 (fun (t1 : Int32) H locs ls => mX G S H ∧ va_S (zA G) s.heap H locs ∧ lv_has ls 3 [(0, .ref (zh G)), (1, .int a1), (2, .int t1)]) 2 ⟨hX, hS, lv_sub hl [1, 2, 0] rfl⟩ (fun t1 y1 b1 w1 k1 H locs ls hi => ?_)
  obtain ⟨hX, hS, hl⟩ := hi
  unfold fm_placeInList_l2 at b1
  refine lv_aload_n hx hb dX3_placeInList_2 rfl (lv_at hl 0 rfl) ?_
  refine m_ga (k := 24) (d := 0) C q1722 rfl (by decide) hX dX3_placeInList_3 ?_
  refine lv_iload_n hx hb dX3_placeInList_6 rfl (lv_at hl 2 rfl) ?_
  obtain ⟨x4, e4, b1⟩ := ob b1
  refine m_ia (k := 24) C rfl hX e4 dX3_placeInList_7 ?_
  refine lv_iload_n hx hb dX3_placeInList_8 rfl (lv_at hl 1 rfl) ?_
  refine lv_icmp_eq (tgt := 18) hx hb dX3_placeInList_9 (by decide) (fun c5 => ?_) (fun c5 => ?_)
  · replace b1 := it c5 b1
    replace b1 := lx b1 w1
    subst b1
    exact J1_18 () _ _ ls ⟨hX, hS, lv_sub hl [2] rfl⟩
  · replace b1 := ie c5 b1
    refine lv_iinc (v := (t1 + (1 : Int32))) (k := 2) (lv' := [(2, .int (t1 + (1 : Int32))), (0, .ref (zh G)), (1, .int a1)]) hx hb dX3_placeInList_12 hl rfl rfl (by decide) rfl (fun ls hl => ?_)
    refine lv_goto (tgt := 2) hx hb dX3_placeInList_15 (by decide) ?_
    obtain ⟨g6, hg6⟩ : ∃ g, g = (t1 + (1 : Int32)) := ⟨_, rfl⟩
    rw [← hg6] at hl b1
    exact k1 _ (Option.some.inj b1).symm _ _ ls ⟨hX, hS, lv_sub hl [1, 2, 0] rfl⟩

def fm_told (S : mS) (a1 : Int32) (a2 : Int32) : Option Int32 :=
  (if (fm_isGuide S a1) = 0 then
  some (-1 : Int32)
  else
  (if (fm_in a2.toInt64 (0 : Int64) (6 : Int64)) = 0 then
  some (-1 : Int32)
  else
  if a2 = (0 : Int32) then
  (aI S 18 a1).bind fun x4 =>
  some x4
  else if a2 = (1 : Int32) then
  (aI S 19 a1).bind fun x6 =>
  some x6
  else if a2 = (2 : Int32) then
  (aI S 20 a1).bind fun x8 =>
  some x8
  else if a2 = (3 : Int32) then
  (fm_placeInList S a1).bind fun x10 =>
  some x10
  else if a2 = (4 : Int32) then
  (aI S 21 a1).bind fun x12 =>
  (if x12 = 0 then
  some (0 : Int32)
  else
  some (1 : Int32))
  else if a2 = (5 : Int32) then
  (aI S 22 a1).bind fun x15 =>
  some x15
  else 
  (aI S 23 a1).bind fun x16 =>
  some x16))
set_option maxHeartbeats 4000000 in
set_option maxRecDepth 100000 in
theorem cm_told (l : Launch) (G : mGh) (hG : mOk G) (S : mS) (a1 : Int32) (a2 : Int32) {r : Int32} (hr : fm_told S a1 a2 = some r) : Met l yX3_told (ws_ yX3_told cX3_told 3 (some .int)) ({ frames := 2, cells := 0, slots := 0, locals := 46 } : Room) (mPc G [.int a1, .int a2] S) (mQi G r S) 0 0 (zA G) := by
  refine m_met cX3_told (by decide) rfl hG (Nat.le_of_ble_eq_true rfl) (fun p e s m args below meth c C hret hlk ls hX hl => ?_)
  have hx := C.1.1
  have hb := C.1.2.1
  have hown := C.1.2.2.2.1
  have hts := C.1.2.2.2.2
  have hS : va_S (zA G) s.heap s.heap [] := va_S.rf
  have hl : lv_has ls 3 [(0, .ref (zh G)), (1, .int a1), (2, .int a2)] := hl
  unfold fm_told at hr
  refine lv_aload_n hx hb dX3_told_0 rfl (lv_at hl 0 rfl) ?_
  refine lv_iload_n hx hb dX3_told_1 rfl (lv_at hl 1 rfl) ?_
  refine m_cvi (As := [.int a1]) (rest := []) C hX hS hl.1 (cm_isGuide l G hG S a1 rfl) (cwV 1 hts (lw_V q2104 q2106 qs63 q109 q2107) rfl rfl rfl (by decide +kernel) ⟨Nat.le_of_ble_eq_true rfl, Nat.le_of_ble_eq_true rfl⟩) rfl rfl (Nat.le_of_ble_eq_true rfl) dX3_told_2 (fun H locs hX hS => ?_)
  refine lv_if_eq (tgt := 20) hx hb dX3_told_5 (by decide) (fun c1 => ?_) (fun c1 => ?_)
  · replace hr := it c1 hr
    refine lv_iconst (v := -1) hx hb dX3_told_20 (by decide) ?_
    exact m_ri (C := C) hret hlk hX hS (Option.some.inj hr) dX3_told_21
  · replace hr := ie c1 hr
    refine lv_iload_n hx hb dX3_told_8 rfl (lv_at hl 2 rfl) ?_
    refine lv_i2l (v := a2.toInt64) hx hb dX3_told_9 rfl ?_
    refine lv_lconst (v := 0) hx hb dX3_told_10 (by decide) ?_
    refine lv_ldc2 hx hb hown (hts _ q2112) dX3_told_11 ?_
    refine m_csi (As := [.long a2.toInt64, .long (0 : Int64), .long (6 : Int64)]) (rest := []) C hX hS hl.1 (cm_in l a2.toInt64 (0 : Int64) (6 : Int64) rfl) (va_cwS 3 hts (lw_S q1974 q1975 q109 q1976) rfl rfl rfl (by decide +kernel) ⟨Nat.le_of_ble_eq_true rfl, Nat.le_of_ble_eq_true rfl⟩) rfl rfl (Nat.le_of_ble_eq_true rfl) dX3_told_14 (fun H locs hX hS => ?_)
    refine lv_if_ne (tgt := 22) hx hb dX3_told_17 (by decide) (fun c2 => ?_) (fun c2 => ?_)
    · replace hr := ie c2 hr
      refine lv_iload_n hx hb dX3_told_22 rfl (lv_at hl 2 rfl) ?_
      by_cases c3 : a2 = (0 : Int32)
      · replace hr := it c3 hr
        refine lv_tableIn (off := 37) (tgt := 60) hx hb dX3_told_23 (by rw [c3]; decide) (by rw [c3]; decide) (by rw [c3]; rfl) (by decide) ?_
        refine lv_aload_n hx hb dX3_told_60 rfl (lv_at hl 0 rfl) ?_
        refine m_ga (k := 18) (d := 0) C q1716 rfl (by decide) hX dX3_told_61 ?_
        refine lv_iload_n hx hb dX3_told_64 rfl (lv_at hl 1 rfl) ?_
        obtain ⟨x4, e4, hr⟩ := ob hr
        refine m_ia (k := 18) C rfl hX e4 dX3_told_65 ?_
        exact m_ri (C := C) hret hlk hX hS (Option.some.inj hr) dX3_told_66
      replace hr := ie c3 hr
      by_cases c5 : a2 = (1 : Int32)
      · replace hr := it c5 hr
        refine lv_tableIn (off := 44) (tgt := 67) hx hb dX3_told_23 (by rw [c5]; decide) (by rw [c5]; decide) (by rw [c5]; rfl) (by decide) ?_
        refine lv_aload_n hx hb dX3_told_67 rfl (lv_at hl 0 rfl) ?_
        refine m_ga (k := 19) (d := 0) C q1717 rfl (by decide) hX dX3_told_68 ?_
        refine lv_iload_n hx hb dX3_told_71 rfl (lv_at hl 1 rfl) ?_
        obtain ⟨x6, e6, hr⟩ := ob hr
        refine m_ia (k := 19) C rfl hX e6 dX3_told_72 ?_
        exact m_ri (C := C) hret hlk hX hS (Option.some.inj hr) dX3_told_73
      replace hr := ie c5 hr
      by_cases c7 : a2 = (2 : Int32)
      · replace hr := it c7 hr
        refine lv_tableIn (off := 51) (tgt := 74) hx hb dX3_told_23 (by rw [c7]; decide) (by rw [c7]; decide) (by rw [c7]; rfl) (by decide) ?_
        refine lv_aload_n hx hb dX3_told_74 rfl (lv_at hl 0 rfl) ?_
        refine m_ga (k := 20) (d := 0) C q1718 rfl (by decide) hX dX3_told_75 ?_
        refine lv_iload_n hx hb dX3_told_78 rfl (lv_at hl 1 rfl) ?_
        obtain ⟨x8, e8, hr⟩ := ob hr
        refine m_ia (k := 20) C rfl hX e8 dX3_told_79 ?_
        exact m_ri (C := C) hret hlk hX hS (Option.some.inj hr) dX3_told_80
      replace hr := ie c7 hr
      by_cases c9 : a2 = (3 : Int32)
      · replace hr := it c9 hr
        refine lv_tableIn (off := 58) (tgt := 81) hx hb dX3_told_23 (by rw [c9]; decide) (by rw [c9]; decide) (by rw [c9]; rfl) (by decide) ?_
        refine lv_aload_n hx hb dX3_told_81 rfl (lv_at hl 0 rfl) ?_
        refine lv_iload_n hx hb dX3_told_82 rfl (lv_at hl 1 rfl) ?_
        obtain ⟨x10, e10, hr⟩ := ob hr
        refine m_cvi (As := [.int a1]) (rest := []) C hX hS hl.1 (cm_placeInList l G hG S a1 e10) (cwV 1 hts (lw_V q2113 q2115 qs64 q109 q2116) rfl rfl rfl (by decide +kernel) ⟨Nat.le_of_ble_eq_true rfl, Nat.le_of_ble_eq_true rfl⟩) rfl rfl (Nat.le_of_ble_eq_true rfl) dX3_told_83 (fun H locs hX hS => ?_)
        exact m_ri (C := C) hret hlk hX hS (Option.some.inj hr) dX3_told_86
      replace hr := ie c9 hr
      by_cases c11 : a2 = (4 : Int32)
      · replace hr := it c11 hr
        refine lv_tableIn (off := 64) (tgt := 87) hx hb dX3_told_23 (by rw [c11]; decide) (by rw [c11]; decide) (by rw [c11]; rfl) (by decide) ?_
        refine lv_aload_n hx hb dX3_told_87 rfl (lv_at hl 0 rfl) ?_
        refine m_ga (k := 21) (d := 1) C q1719 rfl (by decide) hX dX3_told_88 ?_
        refine lv_iload_n hx hb dX3_told_91 rfl (lv_at hl 1 rfl) ?_
        obtain ⟨x12, e12, hr⟩ := ob hr
        refine m_za (k := 21) C rfl hX e12 dX3_told_92 ?_
        refine lv_if_eq (tgt := 100) hx hb dX3_told_93 (by decide) (fun c13 => ?_) (fun c13 => ?_)
        · replace hr := it c13 hr
          refine lv_iconst (v := 0) hx hb dX3_told_100 (by decide) ?_
          exact m_ri (C := C) hret hlk hX hS (Option.some.inj hr) dX3_told_101
        · replace hr := ie c13 hr
          refine lv_iconst (v := 1) hx hb dX3_told_96 (by decide) ?_
          refine lv_goto (tgt := 101) hx hb dX3_told_97 (by decide) ?_
          exact m_ri (C := C) hret hlk hX hS (Option.some.inj hr) dX3_told_101
      replace hr := ie c11 hr
      by_cases c14 : a2 = (5 : Int32)
      · replace hr := it c14 hr
        refine lv_tableIn (off := 79) (tgt := 102) hx hb dX3_told_23 (by rw [c14]; decide) (by rw [c14]; decide) (by rw [c14]; rfl) (by decide) ?_
        refine lv_aload_n hx hb dX3_told_102 rfl (lv_at hl 0 rfl) ?_
        refine m_ga (k := 22) (d := 0) C q1720 rfl (by decide) hX dX3_told_103 ?_
        refine lv_iload_n hx hb dX3_told_106 rfl (lv_at hl 1 rfl) ?_
        obtain ⟨x15, e15, hr⟩ := ob hr
        refine m_ia (k := 22) C rfl hX e15 dX3_told_107 ?_
        exact m_ri (C := C) hret hlk hX hS (Option.some.inj hr) dX3_told_108
      replace hr := ie c14 hr
      refine lv_tableOut (tgt := 109) hx hb dX3_told_23 (tb_out (fun k h1 h2 => ?_)) (by decide) ?_
      · have h3 : k = 0 ∨ k = 1 ∨ k = 2 ∨ k = 3 ∨ k = 4 ∨ k = 5 := by omega
        rcases h3 with rfl | rfl | rfl | rfl | rfl | rfl
        · exact c3
        · exact c5
        · exact c7
        · exact c9
        · exact c11
        · exact c14
      · refine lv_aload_n hx hb dX3_told_109 rfl (lv_at hl 0 rfl) ?_
        refine m_ga (k := 23) (d := 0) C q1721 rfl (by decide) hX dX3_told_110 ?_
        refine lv_iload_n hx hb dX3_told_113 rfl (lv_at hl 1 rfl) ?_
        obtain ⟨x16, e16, hr⟩ := ob hr
        refine m_ia (k := 23) C rfl hX e16 dX3_told_114 ?_
        exact m_ri (C := C) hret hlk hX hS (Option.some.inj hr) dX3_told_115
    · replace hr := it c2 hr
      refine lv_iconst (v := -1) hx hb dX3_told_20 (by decide) ?_
      exact m_ri (C := C) hret hlk hX hS (Option.some.inj hr) dX3_told_21

def fm_list (S : mS) (a1 : Int32) : Option Int32 :=
  (if (fm_isGuide S a1) = 0 then
  some (-1 : Int32)
  else
  (aI S 24 a1).bind fun x2 =>
  some x2)
set_option maxHeartbeats 4000000 in
set_option maxRecDepth 100000 in
theorem cm_list (l : Launch) (G : mGh) (hG : mOk G) (S : mS) (a1 : Int32) {r : Int32} (hr : fm_list S a1 = some r) : Met l yX3_list (ws_ yX3_list cX3_list 2 (some .int)) ({ frames := 2, cells := 0, slots := 0, locals := 46 } : Room) (mPc G [.int a1] S) (mQi G r S) 0 0 (zA G) := by
  refine m_met cX3_list (by decide) rfl hG (Nat.le_of_ble_eq_true rfl) (fun p e s m args below meth c C hret hlk ls hX hl => ?_)
  have hx := C.1.1
  have hb := C.1.2.1
  have hown := C.1.2.2.2.1
  have hts := C.1.2.2.2.2
  have hS : va_S (zA G) s.heap s.heap [] := va_S.rf
  have hl : lv_has ls 2 [(0, .ref (zh G)), (1, .int a1)] := hl
  unfold fm_list at hr
  refine lv_aload_n hx hb dX3_list_0 rfl (lv_at hl 0 rfl) ?_
  refine lv_iload_n hx hb dX3_list_1 rfl (lv_at hl 1 rfl) ?_
  refine m_cvi (As := [.int a1]) (rest := []) C hX hS hl.1 (cm_isGuide l G hG S a1 rfl) (cwV 1 hts (lw_V q2104 q2106 qs63 q109 q2107) rfl rfl rfl (by decide +kernel) ⟨Nat.le_of_ble_eq_true rfl, Nat.le_of_ble_eq_true rfl⟩) rfl rfl (Nat.le_of_ble_eq_true rfl) dX3_list_2 (fun H locs hX hS => ?_)
  refine lv_if_eq (tgt := 17) hx hb dX3_list_5 (by decide) (fun c1 => ?_) (fun c1 => ?_)
  · replace hr := it c1 hr
    refine lv_iconst (v := -1) hx hb dX3_list_17 (by decide) ?_
    exact m_ri (C := C) hret hlk hX hS (Option.some.inj hr) dX3_list_18
  · replace hr := ie c1 hr
    refine lv_aload_n hx hb dX3_list_8 rfl (lv_at hl 0 rfl) ?_
    refine m_ga (k := 24) (d := 0) C q1722 rfl (by decide) hX dX3_list_9 ?_
    refine lv_iload_n hx hb dX3_list_12 rfl (lv_at hl 1 rfl) ?_
    obtain ⟨x2, e2, hr⟩ := ob hr
    refine m_ia (k := 24) C rfl hX e2 dX3_list_13 ?_
    refine lv_goto (tgt := 18) hx hb dX3_list_14 (by decide) ?_
    exact m_ri (C := C) hret hlk hX hS (Option.some.inj hr) dX3_list_18

def fm_day_l30  (t3 : mS × Int32) : Option ((mS × Int32) ⊕ (mS)) :=
  (if (8 : Int32) ≤ t3.2 then
  some (.inr t3.1)
  else
  (tZ t3.1 21 t3.2 (0 : Int32)).bind fun x7 =>
  some (.inl (x7, (t3.2 + (1 : Int32)))))
def fm_day (S : mS) (a1 : Int32) : Option (mS × Int32) :=
  (if (fm_in a1.toInt64 ((gI S 25).toInt64) (999 : Int64)) = 0 then
  some (S, (-1 : Int32))
  else
  (pI S 25 a1).bind fun x2 =>
  (loopO fm_day_l30 1000000 (x2, (0 : Int32))).bind (fun z5 =>
  some (z5, (gI S 25))))
set_option maxHeartbeats 4000000 in
set_option maxRecDepth 100000 in
theorem cm_day (l : Launch) (G : mGh) (hG : mOk G) (S : mS) (a1 : Int32) {S' : mS} {r : Int32} (hr : fm_day S a1 = some (S', r)) : Met l yX3_day (ws_ yX3_day cX3_day 4 (some .int)) ({ frames := 1, cells := 0, slots := 0, locals := 25 } : Room) (mPc G [.int a1] S) (mQi G r S') 0 0 (zA G) := by
  refine m_met cX3_day (by decide) rfl hG (Nat.le_of_ble_eq_true rfl) (fun p e s m args below meth c C hret hlk ls hX hl => ?_)
  have hx := C.1.1
  have hb := C.1.2.1
  have hown := C.1.2.2.2.1
  have hts := C.1.2.2.2.2
  have hS : va_S (zA G) s.heap s.heap [] := va_S.rf
  have hl : lv_has ls 4 [(0, .ref (zh G)), (1, .int a1)] := hl
  unfold fm_day at hr
  refine lv_iload_n hx hb dX3_day_0 rfl (lv_at hl 1 rfl) ?_
  refine lv_i2l (v := a1.toInt64) hx hb dX3_day_1 rfl ?_
  refine lv_aload_n hx hb dX3_day_2 rfl (lv_at hl 0 rfl) ?_
  refine m_gi (k := 25) C q1723 rfl hX dX3_day_3 ?_
  refine lv_i2l (v := (gI S 25).toInt64) hx hb dX3_day_6 rfl ?_
  refine lv_ldc2 hx hb hown (hts _ q2099) dX3_day_7 ?_
  refine m_csi (As := [.long a1.toInt64, .long ((gI S 25).toInt64), .long (999 : Int64)]) (rest := []) C hX hS hl.1 (cm_in l a1.toInt64 ((gI S 25).toInt64) (999 : Int64) rfl) (va_cwS 3 hts (lw_S q1974 q1975 q109 q1976) rfl rfl rfl (by decide +kernel) ⟨Nat.le_of_ble_eq_true rfl, Nat.le_of_ble_eq_true rfl⟩) rfl rfl (Nat.le_of_ble_eq_true rfl) dX3_day_10 (fun H locs hX hS => ?_)
  refine lv_if_ne (tgt := 18) hx hb dX3_day_13 (by decide) (fun c1 => ?_) (fun c1 => ?_)
  · replace hr := ie c1 hr
    refine lv_aload_n hx hb dX3_day_18 rfl (lv_at hl 0 rfl) ?_
    refine m_gi (k := 25) C q1723 rfl hX dX3_day_19 ?_
    refine lv_istore_n (lv' := [(2, .int (gI S 25)), (0, .ref (zh G)), (1, .int a1)]) hx hb dX3_day_22 rfl hl (by decide) rfl (fun ls hl => ?_)
    refine lv_aload_n hx hb dX3_day_23 rfl (lv_at hl 1 rfl) ?_
    refine lv_iload_n hx hb dX3_day_24 rfl (lv_at hl 2 rfl) ?_
    obtain ⟨x2, e2, hr⟩ := ob hr
    refine m_pi (k := 25) C q1723 rfl hX hS e2 dX3_day_25 (fun H locs hX hS => ?_)
    refine lv_iconst (v := 0) hx hb dX3_day_28 (by decide) ?_
    refine lv_istore_n (lv' := [(3, .int (0 : Int32)), (2, .int (gI S 25)), (0, .ref (zh G)), (1, .int a1)]) hx hb dX3_day_29 rfl hl (by decide) rfl (fun ls hl => ?_)
    obtain ⟨z5, e5, hr⟩ := ob hr
    refine m_join (I := fun (_ : Unit) H locs ls => mX G z5 H ∧ va_S (zA G) s.heap H locs ∧ lv_has ls 4 [(2, .int (gI S 25))]) 49 (fun _ => []) (fun _ H locs ls hi => ?_) (fun J3_49 => ?_)
    · obtain ⟨hX, hS, hl⟩ := hi
      refine lv_iload_n hx hb dX3_day_49 rfl (lv_at hl 0 rfl) ?_
      exact m_riw (C := C) hret hlk hX hS (Option.some.inj hr) dX3_day_50
    refine m_loop e5 (fun (t3 : mS × Int32) H locs ls => mX G t3.1 H ∧ va_S (zA G) s.heap H locs ∧ lv_has ls 4 [(0, .ref (zh G)), (2, .int (gI S 25)), (3, .int t3.2)]) 30 ⟨hX, hS, lv_sub hl [2, 1, 0] rfl⟩ (fun t3 y3 b3 w3 k3 H locs ls hi => ?_)
    obtain ⟨hX, hS, hl⟩ := hi
    unfold fm_day_l30 at b3
    refine lv_iload_n hx hb dX3_day_30 rfl (lv_at hl 2 rfl) ?_
    refine lv_bipush (v := 8) hx hb dX3_day_31 (by decide) ?_
    refine lv_icmp_ge (tgt := 49) hx hb dX3_day_33 (by decide) (fun c6 => ?_) (fun c6 => ?_)
    · replace b3 := it c6 b3
      replace b3 := lx b3 w3
      subst b3
      exact J3_49 () _ _ ls ⟨hX, hS, lv_sub hl [1] rfl⟩
    · replace b3 := ie c6 b3
      refine lv_aload_n hx hb dX3_day_36 rfl (lv_at hl 0 rfl) ?_
      refine m_ga (k := 21) (d := 1) C q1719 rfl (by decide) hX dX3_day_37 ?_
      refine lv_iload_n hx hb dX3_day_40 rfl (lv_at hl 2 rfl) ?_
      refine lv_iconst (v := 0) hx hb dX3_day_41 (by decide) ?_
      obtain ⟨x7, e7, b3⟩ := ob b3
      refine m_zs (k := 21) C rfl hX hS e7 dX3_day_42 (fun H locs hX hS => ?_)
      refine lv_iinc (v := (t3.2 + (1 : Int32))) (k := 2) (lv' := [(3, .int (t3.2 + (1 : Int32))), (0, .ref (zh G)), (2, .int (gI S 25))]) hx hb dX3_day_43 hl rfl rfl (by decide) rfl (fun ls hl => ?_)
      refine lv_goto (tgt := 30) hx hb dX3_day_46 (by decide) ?_
      obtain ⟨g8, hg8⟩ : ∃ g, g = (t3.2 + (1 : Int32)) := ⟨_, rfl⟩
      rw [← hg8] at hl b3
      exact k3 _ (Option.some.inj b3).symm _ _ ls ⟨hX, hS, lv_sub hl [1, 2, 0] rfl⟩
  · replace hr := it c1 hr
    refine lv_iconst (v := -1) hx hb dX3_day_16 (by decide) ?_
    exact m_riw (C := C) hret hlk hX hS (Option.some.inj hr) dX3_day_17

def fm_feed_l19 (a1 : Int64) (t2 : mS × Int32) : Option ((mS × Int32) ⊕ (mS)) :=
  (if t2.2 < 0 then
  some (.inr t2.1)
  else
  (tI t2.1 27 (gI t2.1 28) (((a1 >>> (t2.2.toInt64 &&& 63)) &&& (255 : Int64)).toInt32)).bind fun x6 =>
  (pI x6 28 ((gI x6 28) + (1 : Int32))).bind fun x7 =>
  some (.inl (x7, (t2.2 + (-8 : Int32)))))
def fm_feed (S : mS) (a1 : Int64) : Option (mS × Int32) :=
  (if ((gI S 28) + (8 : Int32)) ≤ (240 : Int32) then
  (loopO (fm_feed_l19 a1) 1000000 (S, (56 : Int32))).bind (fun z4 =>
  some (z4, (gI z4 28)))
  else
  some (S, (-3 : Int32)))
set_option maxHeartbeats 4000000 in
set_option maxRecDepth 100000 in
theorem cm_feed (l : Launch) (G : mGh) (hG : mOk G) (S : mS) (a1 : Int64) {S' : mS} {r : Int32} (hr : fm_feed S a1 = some (S', r)) : Met l yX3_feed (ws_ yX3_feed cX3_feed 4 (some .int)) ({ frames := 0, cells := 0, slots := 0, locals := 0 } : Room) (mPc G [.long a1] S) (mQi G r S') 0 0 (zA G) := by
  refine m_met cX3_feed (by decide) rfl hG (Nat.le_of_ble_eq_true rfl) (fun p e s m args below meth c C hret hlk ls hX hl => ?_)
  have hx := C.1.1
  have hb := C.1.2.1
  have hown := C.1.2.2.2.1
  have hts := C.1.2.2.2.2
  have hS : va_S (zA G) s.heap s.heap [] := va_S.rf
  have hl : lv_has ls 4 [(0, .ref (zh G)), (1, .long a1)] := hl
  unfold fm_feed at hr
  refine lv_aload_n hx hb dX3_feed_0 rfl (lv_at hl 0 rfl) ?_
  refine m_gi (k := 28) C q1726 rfl hX dX3_feed_1 ?_
  refine lv_bipush (v := 8) hx hb dX3_feed_4 (by decide) ?_
  refine lv_iadd hx hb dX3_feed_6 ?_
  refine lv_sipush (v := 240) hx hb dX3_feed_7 (by decide) ?_
  refine lv_icmp_le (tgt := 16) hx hb dX3_feed_10 (by decide) (fun c1 => ?_) (fun c1 => ?_)
  · replace hr := it c1 hr
    refine lv_bipush (v := 56) hx hb dX3_feed_16 (by decide) ?_
    refine lv_istore_n (lv' := [(3, .int (56 : Int32)), (0, .ref (zh G)), (1, .long a1)]) hx hb dX3_feed_18 rfl hl (by decide) rfl (fun ls hl => ?_)
    obtain ⟨z4, e4, hr⟩ := ob hr
    refine m_join (I := fun (_ : Unit) H locs ls => mX G z4 H ∧ va_S (zA G) s.heap H locs ∧ lv_has ls 4 [(0, .ref (zh G))]) 56 (fun _ => []) (fun _ H locs ls hi => ?_) (fun J2_56 => ?_)
    · obtain ⟨hX, hS, hl⟩ := hi
      refine lv_aload_n hx hb dX3_feed_56 rfl (lv_at hl 0 rfl) ?_
      refine m_gi (k := 28) C q1726 rfl hX dX3_feed_57 ?_
      exact m_riw (C := C) hret hlk hX hS (Option.some.inj hr) dX3_feed_60
    refine m_loop e4 (fun (t2 : mS × Int32) H locs ls => mX G t2.1 H ∧ va_S (zA G) s.heap H locs ∧ lv_has ls 4 [(0, .ref (zh G)), (1, .long a1), (3, .int t2.2)]) 19 ⟨hX, hS, lv_sub hl [1, 2, 0] rfl⟩ (fun t2 y2 b2 w2 k2 H locs ls hi => ?_)
    obtain ⟨hX, hS, hl⟩ := hi
    unfold fm_feed_l19 at b2
    refine lv_iload_n hx hb dX3_feed_19 rfl (lv_at hl 2 rfl) ?_
    refine lv_if_lt (tgt := 56) hx hb dX3_feed_20 (by decide) (fun c5 => ?_) (fun c5 => ?_)
    · replace b2 := it c5 b2
      replace b2 := lx b2 w2
      subst b2
      exact J2_56 () _ _ ls ⟨hX, hS, lv_sub hl [0] rfl⟩
    · replace b2 := ie c5 b2
      refine lv_aload_n hx hb dX3_feed_23 rfl (lv_at hl 0 rfl) ?_
      refine m_ga (k := 27) (d := 0) C q1725 rfl (by decide) hX dX3_feed_24 ?_
      refine lv_aload_n hx hb dX3_feed_27 rfl (lv_at hl 0 rfl) ?_
      refine m_gi (k := 28) C q1726 rfl hX dX3_feed_28 ?_
      refine lv_lload_n hx hb dX3_feed_31 rfl (lv_at hl 1 rfl) ?_
      refine lv_iload_n hx hb dX3_feed_32 rfl (lv_at hl 2 rfl) ?_
      refine lv_lshr (v := (a1 >>> (t2.2.toInt64 &&& 63))) hx hb dX3_feed_33 rfl ?_
      refine lv_ldc2 hx hb hown (hts _ q2129) dX3_feed_34 ?_
      refine lv_land hx hb dX3_feed_37 ?_
      refine lv_l2i (v := ((a1 >>> (t2.2.toInt64 &&& 63)) &&& (255 : Int64)).toInt32) hx hb dX3_feed_38 rfl ?_
      obtain ⟨x6, e6, b2⟩ := ob b2
      refine m_is (k := 27) C rfl hX hS e6 dX3_feed_39 (fun H locs hX hS => ?_)
      refine lv_aload_n hx hb dX3_feed_40 rfl (lv_at hl 0 rfl) ?_
      refine lv_dup hx hb dX3_feed_41 rfl ?_
      refine m_gi (k := 28) C q1726 rfl hX dX3_feed_42 ?_
      refine lv_iconst (v := 1) hx hb dX3_feed_45 (by decide) ?_
      refine lv_iadd hx hb dX3_feed_46 ?_
      obtain ⟨x7, e7, b2⟩ := ob b2
      refine m_pi (k := 28) C q1726 rfl hX hS e7 dX3_feed_47 (fun H locs hX hS => ?_)
      refine lv_iinc (v := (t2.2 + (-8 : Int32))) (k := 2) (lv' := [(3, .int (t2.2 + (-8 : Int32))), (0, .ref (zh G)), (1, .long a1)]) hx hb dX3_feed_50 hl rfl rfl (by decide) rfl (fun ls hl => ?_)
      refine lv_goto (tgt := 19) hx hb dX3_feed_53 (by decide) ?_
      obtain ⟨g8, hg8⟩ : ∃ g, g = (t2.2 + (-8 : Int32)) := ⟨_, rfl⟩
      rw [← hg8] at hl b2
      exact k2 _ (Option.some.inj b2).symm _ _ ls ⟨hX, hS, lv_sub hl [1, 2, 0] rfl⟩
  · replace hr := ie c1 hr
    refine lv_bipush (v := -3) hx hb dX3_feed_13 (by decide) ?_
    exact m_riw (C := C) hret hlk hX hS (Option.some.inj hr) dX3_feed_15

def fm_end (S : mS) (a1 : Int32) : Option (mS × Int32) :=
  (if (fm_in a1.toInt64 (0 : Int64) ((gI S 28).toInt64)) = 0 then
  some (S, (-1 : Int32))
  else
  (pI S 28 a1).bind fun x2 =>
  some (x2, (gI S 28)))
set_option maxHeartbeats 4000000 in
set_option maxRecDepth 100000 in
theorem cm_end (l : Launch) (G : mGh) (hG : mOk G) (S : mS) (a1 : Int32) {S' : mS} {r : Int32} (hr : fm_end S a1 = some (S', r)) : Met l yX3_end (ws_ yX3_end cX3_end 3 (some .int)) ({ frames := 1, cells := 0, slots := 0, locals := 25 } : Room) (mPc G [.int a1] S) (mQi G r S') 0 0 (zA G) := by
  refine m_met cX3_end (by decide) rfl hG (Nat.le_of_ble_eq_true rfl) (fun p e s m args below meth c C hret hlk ls hX hl => ?_)
  have hx := C.1.1
  have hb := C.1.2.1
  have hown := C.1.2.2.2.1
  have hts := C.1.2.2.2.2
  have hS : va_S (zA G) s.heap s.heap [] := va_S.rf
  have hl : lv_has ls 3 [(0, .ref (zh G)), (1, .int a1)] := hl
  unfold fm_end at hr
  refine lv_iload_n hx hb dX3_end_0 rfl (lv_at hl 1 rfl) ?_
  refine lv_i2l (v := a1.toInt64) hx hb dX3_end_1 rfl ?_
  refine lv_lconst (v := 0) hx hb dX3_end_2 (by decide) ?_
  refine lv_aload_n hx hb dX3_end_3 rfl (lv_at hl 0 rfl) ?_
  refine m_gi (k := 28) C q1726 rfl hX dX3_end_4 ?_
  refine lv_i2l (v := (gI S 28).toInt64) hx hb dX3_end_7 rfl ?_
  refine m_csi (As := [.long a1.toInt64, .long (0 : Int64), .long ((gI S 28).toInt64)]) (rest := []) C hX hS hl.1 (cm_in l a1.toInt64 (0 : Int64) ((gI S 28).toInt64) rfl) (va_cwS 3 hts (lw_S q1974 q1975 q109 q1976) rfl rfl rfl (by decide +kernel) ⟨Nat.le_of_ble_eq_true rfl, Nat.le_of_ble_eq_true rfl⟩) rfl rfl (Nat.le_of_ble_eq_true rfl) dX3_end_8 (fun H locs hX hS => ?_)
  refine lv_if_ne (tgt := 16) hx hb dX3_end_11 (by decide) (fun c1 => ?_) (fun c1 => ?_)
  · replace hr := ie c1 hr
    refine lv_aload_n hx hb dX3_end_16 rfl (lv_at hl 0 rfl) ?_
    refine m_gi (k := 28) C q1726 rfl hX dX3_end_17 ?_
    refine lv_istore_n (lv' := [(2, .int (gI S 28)), (0, .ref (zh G)), (1, .int a1)]) hx hb dX3_end_20 rfl hl (by decide) rfl (fun ls hl => ?_)
    refine lv_aload_n hx hb dX3_end_21 rfl (lv_at hl 1 rfl) ?_
    refine lv_iload_n hx hb dX3_end_22 rfl (lv_at hl 2 rfl) ?_
    obtain ⟨x2, e2, hr⟩ := ob hr
    refine m_pi (k := 28) C q1726 rfl hX hS e2 dX3_end_23 (fun H locs hX hS => ?_)
    refine lv_iload_n hx hb dX3_end_26 rfl (lv_at hl 0 rfl) ?_
    exact m_riw (C := C) hret hlk hX hS (Option.some.inj hr) dX3_end_27
  · replace hr := it c1 hr
    refine lv_iconst (v := -1) hx hb dX3_end_14 (by decide) ?_
    exact m_riw (C := C) hret hlk hX hS (Option.some.inj hr) dX3_end_15

def fm_look (S : mS) (a1 : Int32) : Option Int32 :=
  (if (gI S 28) ≤ a1 then
  some (-1 : Int32)
  else
  (aI S 27 a1).bind fun x2 =>
  some x2)
set_option maxHeartbeats 4000000 in
set_option maxRecDepth 100000 in
theorem cm_look (l : Launch) (G : mGh) (hG : mOk G) (S : mS) (a1 : Int32) {r : Int32} (hr : fm_look S a1 = some r) : Met l yX3_look (ws_ yX3_look cX3_look 2 (some .int)) ({ frames := 0, cells := 0, slots := 0, locals := 0 } : Room) (mPc G [.int a1] S) (mQi G r S) 0 0 (zA G) := by
  refine m_met cX3_look (by decide) rfl hG (Nat.le_of_ble_eq_true rfl) (fun p e s m args below meth c C hret hlk ls hX hl => ?_)
  have hx := C.1.1
  have hb := C.1.2.1
  have hown := C.1.2.2.2.1
  have hts := C.1.2.2.2.2
  have hS : va_S (zA G) s.heap s.heap [] := va_S.rf
  have hl : lv_has ls 2 [(0, .ref (zh G)), (1, .int a1)] := hl
  unfold fm_look at hr
  refine lv_iload_n hx hb dX3_look_0 rfl (lv_at hl 1 rfl) ?_
  refine lv_aload_n hx hb dX3_look_1 rfl (lv_at hl 0 rfl) ?_
  refine m_gi (k := 28) C q1726 rfl hX dX3_look_2 ?_
  refine lv_icmp_ge (tgt := 17) hx hb dX3_look_5 (by decide) (fun c1 => ?_) (fun c1 => ?_)
  · replace hr := it c1 hr
    refine lv_iconst (v := -1) hx hb dX3_look_17 (by decide) ?_
    exact m_ri (C := C) hret hlk hX hS (Option.some.inj hr) dX3_look_18
  · replace hr := ie c1 hr
    refine lv_aload_n hx hb dX3_look_8 rfl (lv_at hl 0 rfl) ?_
    refine m_ga (k := 27) (d := 0) C q1725 rfl (by decide) hX dX3_look_9 ?_
    refine lv_iload_n hx hb dX3_look_12 rfl (lv_at hl 1 rfl) ?_
    obtain ⟨x2, e2, hr⟩ := ob hr
    refine m_ia (k := 27) C rfl hX e2 dX3_look_13 ?_
    refine lv_goto (tgt := 18) hx hb dX3_look_14 (by decide) ?_
    exact m_ri (C := C) hret hlk hX hS (Option.some.inj hr) dX3_look_18
