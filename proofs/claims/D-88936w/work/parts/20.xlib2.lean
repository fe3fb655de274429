/-! X: virtual and super calls of steps; lists -/
theorem lw5 {a b c d e : Cond} (h1 : a ∈ lw_all) (h2 : b ∈ lw_all) (h3 : c ∈ lw_all) (h4 : d ∈ lw_all) (h5 : e ∈ lw_all) : ∀ w ∈ ([a, b, c, d, e] : List Cond), w ∈ lw_all := by
  intro w hw
  simp only [List.mem_cons, List.not_mem_nil, or_false] at hw
  rcases hw with q | q | q | q | q <;> rw [q]
  · exact h1
  · exact h2
  · exact h3
  · exact h4
  · exact h5
section XVIRT
variable {p : Program} {l : Launch} {e : Env} {R : Room} {s : State} {m : MethodId} {args : Array Value} {below : List Frame} {meth : Method} {c : Code} {H : Heap} {locs : List Loc} {cells slots mc ms : Nat} {Q : State → Prop} {Γ : xGh} {γ : xMv} {cc : ByteArray} {nL pc : Nat} {ls : Array Slot} {rest : List Value} {S S2 : xS} {P o k idx cx : Nat} {r : Option Nat} {own ref : String} {CN : String} {TT : u_T} {NN : Nat}
variable {As st0 : List Value} {v : Int32} {y x : MethodName} {b : ByteArray} {L n : Nat} {rm : Room} {ret : Option FieldType} {wsy : List Cond} {owner : String}
/-- a call that finds its method y by the object's class -/
theorem x_cvU (C : xC2 p m c s args Γ cc nL own) (hX : xX Γ γ S H) (hS : va_S (yA Γ) s.heap H locs) (hl : ls.size = nL) (hp : P < 64) (hkd : xkd P = 1) (ho : o < xcap S P) (hc : xcl S P o = cx) (hcl : xCl[cx]? = some (CN, TT, NN)) (hM : Met l y wsy rm (xPc Γ γ S (.ref (ad γ P o) :: As)) (xQi Γ γ v S2) mc ms (yA Γ)) (cw : va_CU R s args own CN owner idx x y b L ret wsy rm mc ms n) (hn : As.length = n) (hst : st0 = As.reverse ++ .ref (ad γ P o) :: rest) (hW : (rest.map fun v => v.category).sum ≤ 8) (hf : cells + mc ≤ R.cells ∧ slots + ms ≤ R.slots) (hdg : decode cc pc = .ok (.invokevirtual idx, 3))
    (kk : ∀ (H : Heap) (locs : List Loc), xX Γ γ S2 H → va_S (yA Γ) s.heap H locs → W p l e R s m args below meth c H locs (cells + mc) (slots + ms) Q (F0 m (pc + 3) ls (.int v :: rest))) : W p l e R s m args below meth c H locs cells slots Q (F0 m pc ls st0) := by
  refine va_calli (va_runU (rest := rest) C.1.1 hM cw (xPre C hX hS hp hkd ho hc hcl) rfl hn hl hst (lv_room hW) hdg hf) hS (fun q _ h => h) (fun q h => h) (fun x u t H1 locs1 ht hvm hw hB hz hk hS1 => ?_)
  subst hw
  exact kk H1 locs1 (by rw [← ht]; exact hB) hS1
theorem x_tag (hX : xX Γ γ S H) (ho : o < xcap S 1) : (xK S 1 o = 0 ∧ xcl S 1 o = 5) ∨ (xK S 1 o = 1 ∧ xcl S 1 o = 6) ∨ (xK S 1 o = 2 ∧ xcl S 1 o = 7) ∨ (xK S 1 o = 3 ∧ xcl S 1 o = 8) ∨ (xK S 1 o = 4 ∧ xcl S 1 o = 9) := by
  have h5 : xK S 1 o < 5 := hX.2.2.2.2.1 1 o rfl ho
  unfold xcl
  rcases (show xK S 1 o = 0 ∨ xK S 1 o = 1 ∨ xK S 1 o = 2 ∨ xK S 1 o = 3 ∨ xK S 1 o = 4 by omega) with h | h | h | h | h <;> rw [h]
  · exact Or.inl ⟨rfl, rfl⟩
  · exact Or.inr (Or.inl ⟨rfl, rfl⟩)
  · exact Or.inr (Or.inr (Or.inl ⟨rfl, rfl⟩))
  · exact Or.inr (Or.inr (Or.inr (Or.inl ⟨rfl, rfl⟩)))
  · exact Or.inr (Or.inr (Or.inr (Or.inr ⟨rfl, rfl⟩)))
theorem xPre1 (C : xC2 p m c s args Γ cc nL own) (hX : xX Γ γ S H) (hS : va_S (yA Γ) s.heap H locs) (ho : o < xcap S 1) : ∃ (CN : String) (cC : ClassId), ClassAt s CN cC ∧ PreV s H CN (ad γ 1 o) (xPc Γ γ S (.ref (ad γ 1 o) :: As)) As := by
  rcases x_tag hX ho with h | h | h | h | h
  · exact ⟨_, _, (C.1.2.1.1 5 _ rfl).2, xPre C hX hS (by decide) rfl ho h.2 rfl⟩
  · exact ⟨_, _, (C.1.2.1.1 6 _ rfl).2, xPre C hX hS (by decide) rfl ho h.2 rfl⟩
  · exact ⟨_, _, (C.1.2.1.1 7 _ rfl).2, xPre C hX hS (by decide) rfl ho h.2 rfl⟩
  · exact ⟨_, _, (C.1.2.1.1 8 _ rfl).2, xPre C hX hS (by decide) rfl ho h.2 rfl⟩
  · exact ⟨_, _, (C.1.2.1.1 9 _ rfl).2, xPre C hX hS (by decide) rfl ho h.2 rfl⟩
/-- super.m(..) in a class of steps -/
theorem x_su (C : xC2 p m c s args Γ cc nL own) (hX : xX Γ γ S H) (hS : va_S (yA Γ) s.heap H locs) (hl : ls.size = nL) (ho : o < xcap S 1) (hM : Met l y wsy rm (xPc Γ γ S (.ref (ad γ 1 o) :: As)) (xQi Γ γ v S2) mc ms (yA Γ)) (cw : va_CS R s args own idx y b L ret wsy rm mc ms n) (hn : As.length = n) (hst : st0 = As.reverse ++ .ref (ad γ 1 o) :: rest) (hW : (rest.map fun v => v.category).sum ≤ 8) (hf : cells + mc ≤ R.cells ∧ slots + ms ≤ R.slots) (hdg : decode cc pc = .ok (.invokespecial idx, 3))
    (kk : ∀ (H : Heap) (locs : List Loc), xX Γ γ S2 H → va_S (yA Γ) s.heap H locs → W p l e R s m args below meth c H locs (cells + mc) (slots + ms) Q (F0 m (pc + 3) ls (.int v :: rest))) : W p l e R s m args below meth c H locs cells slots Q (F0 m pc ls st0) := by
  obtain ⟨CN, cC, hat, hp⟩ := xPre1 (As := As) C hX hS ho
  refine va_calli (va_runSU (rest := rest) hat C.1.1 hM cw hp rfl hn hl hst (lv_room hW) hdg hf) hS (fun q _ h => h) (fun q h => h) (fun x u t H1 locs1 ht hvm hw hB hz hk hS1 => ?_)
  subst hw
  exact kk H1 locs1 (by rw [← ht]; exact hB) hS1
/-- a step out of a list is a step -/
theorem x_castS (C : xC2 p m c s args Γ cc nL own) (hX : xX Γ γ S H) (ho : o < xcap S 1) (q : Cond.classLink own idx "ValleyGuides$Step" ∈ lw_all) (hdg : decode cc pc = .ok (.checkcast idx, 3))
    (kk : W p l e R s m args below meth c H locs cells slots Q (F0 m (pc + 3) ls (.ref (ad γ 1 o) :: rest))) : W p l e R s m args below meth c H locs cells slots Q (F0 m pc ls (.ref (ad γ 1 o) :: rest)) := by
  have hw := fun cx (hc : xcl S 1 o = cx) => (show ∃ j : Nat, (xws Γ γ S)[j]? = some (ad γ 1 o, .inr (cx, xfs γ S cx 1 o)) by
    obtain ⟨j, hj, hw⟩ := xws_at (Γ := Γ) (xlv_of (γ := γ) (S := S) (p := 1) (by decide) (by decide) ho)
    rw [xce_obj (by decide) rfl, hc] at hw
    exact ⟨j, hw⟩)
  rcases x_tag hX ho with h | h | h | h | h
  · obtain ⟨j, hj⟩ := hw _ h.2
    exact va_castY (C := "ValleyGuides$Path") C.1.1.1 C.1.1.2.1 C.1.1.2.2.2.1 (C.1.1.2.2.2.2 _ q) (C.2.1 _ q2416 rfl) (va_recv C.1.2.1 hX.list.1 (ci := 5) (q := (RX5, TX5, 5)) rfl hj) hdg kk
  · obtain ⟨j, hj⟩ := hw _ h.2
    exact va_castY (C := "ValleyGuides$Ice") C.1.1.1 C.1.1.2.1 C.1.1.2.2.2.1 (C.1.1.2.2.2.2 _ q) (C.2.1 _ q2415 rfl) (va_recv C.1.2.1 hX.list.1 (ci := 6) (q := (RX6, TX6, 5)) rfl hj) hdg kk
  · obtain ⟨j, hj⟩ := hw _ h.2
    exact va_castY (C := "ValleyGuides$Rock") C.1.1.1 C.1.1.2.1 C.1.1.2.2.2.1 (C.1.1.2.2.2.2 _ q) (C.2.1 _ q2418 rfl) (va_recv C.1.2.1 hX.list.1 (ci := 7) (q := (RX7, TX7, 5)) rfl hj) hdg kk
  · obtain ⟨j, hj⟩ := hw _ h.2
    exact va_castY (C := "ValleyGuides$Snow") C.1.1.1 C.1.1.2.1 C.1.1.2.2.2.1 (C.1.1.2.2.2.2 _ q) (C.2.1 _ q2419 rfl) (va_recv C.1.2.1 hX.list.1 (ci := 8) (q := (RX8, TX8, 5)) rfl hj) hdg kk
  · obtain ⟨j, hj⟩ := hw _ h.2
    exact va_castY (C := "ValleyGuides$Ridge") C.1.1.1 C.1.1.2.1 C.1.1.2.2.2.1 (C.1.1.2.2.2.2 _ q) (C.2.1 _ q2417 rfl) (va_recv C.1.2.1 hX.list.1 (ci := 9) (q := (RX9, TX9, 5)) rfl hj) hdg kk
/-- an object of a pool of one class is of that class -/
theorem x_castC (C : xC2 p m c s args Γ cc nL own) (hX : xX Γ γ S H) (hp : P < 64) (hkd : xkd P = 1) (ho : o < xcap S P) (h1 : xclT.getD P [] = [cx]) (hcl : xCl[cx]? = some (CN, TT, NN)) (q : Cond.classLink own idx CN ∈ lw_all) (hdg : decode cc pc = .ok (.checkcast idx, 3))
    (kk : W p l e R s m args below meth c H locs cells slots Q (F0 m (pc + 3) ls (.ref (ad γ P o) :: rest))) : W p l e R s m args below meth c H locs cells slots Q (F0 m pc ls (.ref (ad γ P o) :: rest)) := by
  obtain ⟨j, hj, hw⟩ := xws_at (Γ := Γ) (xlv_of (γ := γ) hp (by omega) ho)
  rw [xce_obj hp hkd, xcl1 h1] at hw
  exact va_castS C.1.1.1 C.1.1.2.1 C.1.1.2.2.2.1 (C.1.1.2.2.2.2 _ q) (C.1.2.1.1 cx _ hcl).2 (va_recv C.1.2.1 hX.list.1 hcl hw) hdg kk
/-! lists -/
def xls (S : xS) (P : Nat) (r : Option Nat) : Option Int32 := r.bind fun o => if o < xcap S P then some (nI (xT S P o).length) else none
def xlg (S : xS) (P : Nat) (r : Option Nat) (i : Int32) : Option (Option Nat) := r.bind fun o => if o < xcap S P ∧ ¬ (i < 0 ∨ (xT S P o).length ≤ i.toNatClampNeg) ∧ (xT S P o).length < 2 ^ 31 then some ((xT S P o)[i.toNatClampNeg]?) else none
theorem x_lat (hX : xX Γ γ S H) (hp : P < 64) (hkd : xkd P = 9) (ho : o < xcap S P) : ∃ j : Nat, (xro γ S)[j]? = some (P, o) ∧ (xws Γ γ S)[j]? = some (ad γ P o, .inr (25, [.int (mdc γ P o), if cp γ P o = 0 then .ref (ye Γ) else .ref (ad γ (100 + P) o), .int (nI (xT S P o).length)])) := by
  obtain ⟨j, hj, hw⟩ := xws_at (Γ := Γ) (xlv_of (γ := γ) hp (by omega) ho)
  refine ⟨j, hj, ?_⟩
  rw [hw]
  unfold xce
  rw [if_neg (by show ¬ 100 ≤ P; omega), if_pos (by exact hkd)]
theorem x_lda (hX : xX Γ γ S H) (hp : P < 64) (hkd : xkd P = 9) (ho : o < xcap S P) (hc : 0 < cp γ P o) : ∃ j : Nat, (xro γ S)[j]? = some (100 + P, o) ∧ (xws Γ γ S)[j]? = some (ad γ (100 + P) o, .inl (yk Γ 13, cp γ P o, .inr (.inr (.inr (.inr (xdt γ S P o)))))) := by
  have e : 100 + P - 100 = P := by omega
  have hl : xlv γ S (100 + P, o) := by
    unfold xlv
    rw [if_pos (by show 100 ≤ 100 + P; omega)]
    show _ ∧ xkd (100 + P - 100) = 9 ∧ o < xcap S (100 + P - 100) ∧ 0 < cp γ (100 + P - 100) o
    rw [e]
    exact ⟨by show 100 + P < 164; omega, hkd, ho, hc⟩
  obtain ⟨j, hj, hw⟩ := xws_at (Γ := Γ) hl
  refine ⟨j, hj, ?_⟩
  rw [hw]
  unfold xce
  rw [if_pos (by show 100 ≤ 100 + P; omega)]
  show some (_, Sum.inl (yk Γ 13, cp γ (100 + P - 100) o, Sum.inr (Sum.inr (Sum.inr (Sum.inr (xdt γ S (100 + P - 100) o)))))) = _
  rw [e]
theorem xPreL (C : xC2 p m c s args Γ cc nL own) (hX : xX Γ γ S H) (hS : va_S (yA Γ) s.heap H locs) (hp : P < 64) (hkd : xkd P = 9) (ho : o < xcap S P) : PreV s H RJ2 (ad γ P o) (xPc Γ γ S (.ref (ad γ P o) :: As)) As := by
  obtain ⟨j, hj, hw⟩ := x_lat (Γ := Γ) hX hp hkd ho
  exact ⟨xU_blind, va_recv C.1.2.1 hX.list.1 (ci := 25) (q := (RJ2, TJ2, 3)) rfl hw, fun U hU hW => ⟨rfl, by rw [hU]; exact hX, va_K.moved hW.alike C.1.2.1, fun q hq => C.1.2.2 q (Nat.le_trans hS.1 (by rw [← hU]; exact hq)), C.2.step hW hS hU⟩⟩
theorem x_gL {v : Value} (C : xC2 p m c s args Γ cc nL own) (hX : xX Γ γ S H) (hp : P < 64) (hkd : xkd P = 9) (ho : o < xcap S P) (hk : k < 3) (q : Cond.fieldLink own idx ref (TJ2 k).2.1 (TJ2 k).2.2.1 ∈ lw_all) (hs : ∀ x, s.fieldFound? (TJ2 k).1 (TJ2 k).2.1 (TJ2 k).2.2.1 = some x → s.fieldFound? ref (TJ2 k).2.1 (TJ2 k).2.2.1 = some x) (hv : ([.int (mdc γ P o), if cp γ P o = 0 then .ref (ye Γ) else .ref (ad γ (100 + P) o), .int (nI (xT S P o).length)] : List Value)[k]? = some v) (hdg : decode cc pc = .ok (.getfield idx, 3))
    (kk : W p l e R s m args below meth c H locs cells slots Q (F0 m (pc + 3) ls (v :: rest))) : W p l e R s m args below meth c H locs cells slots Q (F0 m pc ls (.ref (ad γ P o) :: rest)) := by
  obtain ⟨j, hj, hw⟩ := x_lat (Γ := Γ) hX hp hkd ho
  exact va_get (v := v) (C := RJ2) (T := TJ2) (N := 3) C.1.1.1 C.1.1.2.1 C.1.1.2.2.2.2 in_J2 C.1.1.2.2.2.1 C.1.2.1 hX.list.1 j hw (rfl : xCl[25]? = some (RJ2, TJ2, 3)) k hk (C.1.1.2.2.2.2 _ q) hs hv hdg kk
end XVIRT
theorem cJ_size (l : Launch) (Γ : xGh) (γ : xMv) (S : xS) {P o : Nat} (hp : P < 64) (hkd : xkd P = 9) (ho : o < xcap S P) : Met l yJ2_size (ws_ yJ2_size cJ2_size 1 (some .int)) ({ frames := 0, cells := 0, slots := 0, locals := 0 } : Room) (xPc Γ γ S [.ref (ad γ P o)]) (xQi Γ γ (nI (xT S P o).length) S) 0 0 (yA Γ) := by
  refine x_met cJ2_size RJ2 (by decide) rfl (Nat.le_of_ble_eq_true rfl) (fun p e s m args below meth c C hret hlk ls hX hl => ?_)
  have hx := C.1.1.1
  have hb := C.1.1.2.1
  have hS : va_S (yA Γ) s.heap s.heap [] := va_S.rf
  have hl : lv_has ls 1 [(0, .ref (ad γ P o))] := hl
  refine lv_aload_n hx hb dJ2_size_0 rfl (lv_at hl 0 rfl) ?_
  refine x_gL (k := 2) (v := .int (nI (xT S P o).length)) C hX hp hkd ho (by decide) q320 (fun _ h => h) rfl dJ2_size_1 ?_
  exact x_ri C hret hlk hX hS rfl rfl dJ2_size_4
theorem cJ_ci2 (l : Launch) (i n : Int32) (h0 : ¬ i < 0) (h1 : i < n) : Met l yJ7_checkIndex (ws_ yJ7_checkIndex cJ7_checkIndex 3 (some .int)) ({ frames := 0, cells := 0, slots := 0, locals := 0 } : Room) (nPc [.int i, .int n, .null]) (nQi i) 0 0 (fun _ => False) := by
  refine n_met cJ7_checkIndex RJ7 (by decide) rfl (Nat.le_of_ble_eq_true rfl) (fun p e s m args below meth c C hret hlk ls hl => ?_)
  have hx := C.1
  have hb := C.2.1
  have hS : va_S (fun _ => False) s.heap s.heap [] := va_S.rf
  have hl : lv_has ls 3 [(0, .int i), (1, .int n), (2, .null)] := hl
  refine lv_iload_n hx hb dJ7_checkIndex_0 rfl (lv_at hl 0 rfl) ?_
  refine lv_if_lt (tgt := 9) hx hb dJ7_checkIndex_1 (by decide) (fun c1 => absurd c1 h0) (fun c1 => ?_)
  refine lv_iload_n hx hb dJ7_checkIndex_4 rfl (lv_at hl 0 rfl) ?_
  refine lv_iload_n hx hb dJ7_checkIndex_5 rfl (lv_at hl 1 rfl) ?_
  refine lv_icmp_lt (tgt := 16) hx hb dJ7_checkIndex_6 (by decide) (fun c1 => ?_) (fun c1 => absurd h1 c1)
  refine lv_iload_n hx hb dJ7_checkIndex_16 rfl (lv_at hl 0 rfl) ?_
  exact s_ri hx hb hret hlk hS rfl dJ7_checkIndex_17
theorem cJ_ci (l : Launch) (i n : Int32) (h0 : ¬ i < 0) (h1 : i < n) : Met l yJ6_checkIndex (ws_ yJ6_checkIndex cJ6_checkIndex 2 (some .int)) ({ frames := 1, cells := 0, slots := 0, locals := 22 } : Room) (nPc [.int i, .int n]) (nQi i) 0 0 (fun _ => False) := by
  refine n_met cJ6_checkIndex RJ6 (by decide) rfl (Nat.le_of_ble_eq_true rfl) (fun p e s m args below meth c C hret hlk ls hl => ?_)
  have hx := C.1
  have hb := C.2.1
  have hts := C.2.2.2.2
  have hS : va_S (fun _ => False) s.heap s.heap [] := va_S.rf
  have hl : lv_has ls 2 [(0, .int i), (1, .int n)] := hl
  refine lv_iload_n hx hb dJ6_checkIndex_0 rfl (lv_at hl 0 rfl) ?_
  refine lv_iload_n hx hb dJ6_checkIndex_1 rfl (lv_at hl 1 rfl) ?_
  refine lv_null hx hb dJ6_checkIndex_2 ?_
  refine n_csi (As := [.int i, .int n, .null]) (rest := []) C hS hl.1 (cJ_ci2 l i n h0 h1) (va_cwS 3 hts (lw_S q449 q450 q122 q451) rfl rfl rfl (by decide +kernel) ⟨Nat.le_of_ble_eq_true rfl, Nat.le_of_ble_eq_true rfl⟩) rfl rfl (Nat.le_of_ble_eq_true rfl) ⟨Nat.zero_le _, Nat.zero_le _⟩ dJ6_checkIndex_3 (fun H locs hS => ?_)
  exact s_ri hx hb hret hlk hS rfl dJ6_checkIndex_6
abbrev xQr (Γ : xGh) (γ : xMv) (P : Nat) (v : Option Nat) (S2 : xS) : Array Value → State → Outcome → State → Prop := va_Qq (fun x (_ : Unit) => x = v.map (ad γ P)) (fun _ t => xX Γ γ S2 t.heap) (yA Γ)
section XRETR
variable {p : Program} {l : Launch} {e : Env} {R : Room} {s : State} {m : MethodId} {args : Array Value} {below : List Frame} {meth : Method} {c : Code} {H : Heap} {locs : List Loc} {cells slots mc ms : Nat} {Q : State → Prop} {Γ : xGh} {γ : xMv} {cc : ByteArray} {nL pc : Nat} {ls : Array Slot} {S S2 : xS} {P o k idx cx : Nat} {own : String} {cn : String}
theorem x_ra_ {v v2 : Option Nat} (C : xC2 p m c s args Γ cc nL own) (hret : meth.sig.returnType = some (.object cn)) (hlk : meth.locks = false) (hX : xX Γ γ S H) (hS : va_S (yA Γ) s.heap H locs) (e0 : S = S2) (e1 : v = v2) (hdg : decode cc pc = .ok (.areturn, 1)) : W p l e R s m args below meth c H locs mc ms (MQ below (xQr Γ γ P v2 S2) args s mc ms (yA Γ)) (F0 m pc ls [xv γ P v]) := by
  subst e0; subst e1
  exact W.aret C.1.1.1 C.1.1.2.1 hret (Or.inl ⟨_, rfl⟩) (by cases v <;> first | exact Or.inl rfl | exact Or.inr ⟨_, rfl⟩) (fun t ht hW => ⟨⟨v.map (ad γ P), (), rfl, rfl, by subst ht; exact hX⟩, hS.F ht⟩) hS.2.2 hdg
end XRETR
theorem cJ_ed (l : Launch) (Γ : xGh) (γ : xMv) (S : xS) {P o : Nat} (i : Int32) (hp : P < 64) (hkd : xkd P = 9) (ho : o < xcap S P) (hi : ¬ (i < 0 ∨ (xT S P o).length ≤ i.toNatClampNeg)) : Met l yJ2_elementData (ws_ yJ2_elementData cJ2_elementData 2 (some (.object "java/lang/Object"))) ({ frames := 0, cells := 0, slots := 0, locals := 0 } : Room) (xPc Γ γ S [.ref (ad γ P o), .int i]) (xQr Γ γ (xep P) ((xT S P o)[i.toNatClampNeg]?) S) 0 0 (yA Γ) := by
  refine x_met cJ2_elementData RJ2 (by decide) rfl (Nat.le_of_ble_eq_true rfl) (fun p e s m args below meth c C hret hlk ls hX hl => ?_)
  have hx := C.1.1.1
  have hb := C.1.1.2.1
  have hS : va_S (yA Γ) s.heap s.heap [] := va_S.rf
  have hl : lv_has ls 2 [(0, .ref (ad γ P o)), (1, .int i)] := hl
  have hlt : i.toNatClampNeg < (xT S P o).length := Nat.not_le.mp fun q => hi (Or.inr q)
  have hlc := hX.2.2.2.1 P o hkd
  have hc : 0 < cp γ P o := by omega
  obtain ⟨j, hj, hw⟩ := x_lda (Γ := Γ) hX hp hkd ho hc
  refine lv_aload_n hx hb dJ2_elementData_0 rfl (lv_at hl 0 rfl) ?_
  refine x_gL (k := 1) (v := .ref (ad γ (100 + P) o)) C hX hp hkd ho (by decide) q319 (fun _ h => h) (by rw [if_neg (by omega)]; rfl) dJ2_elementData_1 ?_
  refine lv_iload_n hx hb dJ2_elementData_4 rfl (lv_at hl 1 rfl) ?_
  refine va_aldq hx hb C.1.2.1 hX.list.1 j 13 hw (xtl_at (by decide)) (fun h => hi (h.elim Or.inl (fun h2 => absurd h2 (by omega)))) dJ2_elementData_5 ?_
  have e9 : va_rf (xdt γ S P o i.toNatClampNeg) = xv γ (xep P) ((xT S P o)[i.toNatClampNeg]?) := by
    unfold xdt
    rw [List.getElem?_eq_getElem hlt]
    rfl
  rw [e9]
  exact x_ra_ C hret hlk hX hS rfl rfl dJ2_elementData_6
theorem cJ_get (l : Launch) (Γ : xGh) (γ : xMv) (S : xS) {P o : Nat} (i : Int32) (hp : P < 64) (hkd : xkd P = 9) (ho : o < xcap S P) (hi : ¬ (i < 0 ∨ (xT S P o).length ≤ i.toNatClampNeg)) (h31 : (xT S P o).length < 2 ^ 31) : Met l yJ2_get (ws_ yJ2_get cJ2_get 2 (some (.object "java/lang/Object"))) ({ frames := 2, cells := 0, slots := 0, locals := 43 } : Room) (xPc Γ γ S [.ref (ad γ P o), .int i]) (xQr Γ γ (xep P) ((xT S P o)[i.toNatClampNeg]?) S) 0 0 (yA Γ) := by
  refine x_met cJ2_get RJ2 (by decide) rfl (Nat.le_of_ble_eq_true rfl) (fun p e s m args below meth c C hret hlk ls hX hl => ?_)
  have hx := C.1.1.1
  have hb := C.1.1.2.1
  have hts := C.1.1.2.2.2.2
  have hS : va_S (yA Γ) s.heap s.heap [] := va_S.rf
  have hl : lv_has ls 2 [(0, .ref (ad γ P o)), (1, .int i)] := hl
  have hlt : i.toNatClampNeg < (xT S P o).length := Nat.not_le.mp fun q => hi (Or.inr q)
  obtain ⟨n, hn, hin⟩ := vp_in_of (n := (xT S P o).length) hi h31
  refine lv_iload_n hx hb dJ2_get_0 rfl (lv_at hl 1 rfl) ?_
  refine lv_aload_n hx hb dJ2_get_1 rfl (lv_at hl 0 rfl) ?_
  refine x_gL (k := 2) (v := .int (nI (xT S P o).length)) C hX hp hkd ho (by decide) q320 (fun _ h => h) rfl dJ2_get_2 ?_
  refine x_csi (As := [.int i, .int (nI (xT S P o).length)]) (rest := []) C hX hS hl.1 (cJ_ci l i _ (fun h => hi (Or.inl h)) (by rw [hin]; exact nI_lt hn h31)) (va_cwS 2 hts (lw_S q446 q447 q121 q448) rfl rfl rfl (by decide +kernel) ⟨Nat.le_of_ble_eq_true rfl, Nat.le_of_ble_eq_true rfl⟩) rfl rfl (Nat.le_of_ble_eq_true rfl) ⟨Nat.le_of_ble_eq_true rfl, Nat.le_of_ble_eq_true rfl⟩ dJ2_get_5 (fun H locs hX hS => ?_)
  refine lv_pop hx hb dJ2_get_8 rfl ?_
  refine lv_aload_n hx hb dJ2_get_9 rfl (lv_at hl 0 rfl) ?_
  refine lv_iload_n hx hb dJ2_get_10 rfl (lv_at hl 1 rfl) ?_
  refine va_callq (va_runV (As := [.int i]) (rest := []) C.1.1 (cJ_ed l Γ γ S i hp hkd ho hi) (cwV 1 hts (lw_V q452 q453 q454 q107 q455) rfl rfl rfl (by decide +kernel) ⟨Nat.le_of_ble_eq_true rfl, Nat.le_of_ble_eq_true rfl⟩) (xPreL C hX hS hp hkd ho) rfl rfl hl.1 rfl (lv_room (Nat.le_of_ble_eq_true rfl)) dJ2_get_11 ⟨Nat.le_of_ble_eq_true rfl, Nat.le_of_ble_eq_true rfl⟩) hS (fun q _ h => h) (fun q h => h) (fun x u t H1 locs1 ht hvm hw hB hz hk hS1 => ?_)
  subst hw
  exact x_ra_ C hret hlk (by rw [← ht]; exact hB) hS1 rfl rfl dJ2_get_14
section XLISTS
variable {p : Program} {l : Launch} {e : Env} {R : Room} {s : State} {m : MethodId} {args : Array Value} {below : List Frame} {meth : Method} {c : Code} {H : Heap} {locs : List Loc} {cells slots mc ms : Nat} {Q : State → Prop} {Γ : xGh} {γ : xMv} {cc : ByteArray} {nL pc : Nat} {ls : Array Slot} {rest : List Value} {S S2 : xS} {P o k idx cx ct : Nat} {r : Option Nat} {own ref : String}
/-- list.size() by the interface -/
theorem x_lsz {v : Int32} (C : xC2 p m c s args Γ cc nL own) (hX : xX Γ γ S H) (hS : va_S (yA Γ) s.heap H locs) (hl : ls.size = nL) (hp : P < 64) (hkd : xkd P = 9) (e1 : xls S P (some o) = some v) (q : Cond.methodLink own idx ⟨"java/util/List", "size", "()I"⟩ ∈ lw_all) (hR : 1 ≤ R.frames ∧ 20 ≤ R.locals) (hf : cells ≤ R.cells ∧ slots ≤ R.slots) (hW : (rest.map fun v => v.category).sum ≤ 8) (hdg : decode cc pc = .ok (.invokeinterface idx ct, 5))
    (kk : ∀ (H : Heap) (locs : List Loc), xX Γ γ S H → va_S (yA Γ) s.heap H locs → W p l e R s m args below meth c H locs cells slots Q (F0 m (pc + 5) ls (.int v :: rest))) : W p l e R s m args below meth c H locs cells slots Q (F0 m pc ls (.ref (ad γ P o) :: rest)) := by
  obtain ⟨o2, e2, ho, rfl⟩ := rb_s e1
  cases e2
  refine va_callFi (va_runF (As := []) (rest := rest) (C.1.2.1.1 25 _ (rfl : xCl[25]? = some (RJ2, TJ2, 3))).2 C.1.1 (cJ_size l Γ γ S hp hkd ho) (va_cwF (x := ⟨"java/util/List", "size", "()I"⟩) 0 C.1.1.2.2.2.2 (lw_app (by intro w hw; simp only [List.mem_cons, List.not_mem_nil, or_false] at hw; rcases hw with e | e | e | e <;> rw [e]; exact q; exact q432; exact q434; exact q107) (lw_meth q436)) rfl rfl rfl (C.2.2.1 ("size", "()I") (by decide)) (by decide +kernel) hR) (xPreL C hX hS hp hkd ho) rfl rfl hl rfl (lv_room hW) hdg hf) hS (fun q _ h => h) (fun q h => h) (fun x u t H1 locs1 ht hvm hw hB hz hk hS1 => ?_)
  subst hw
  exact kk H1 locs1 (by rw [← ht]; exact hB) hS1
/-- list.get(i) by the interface -/
theorem x_lget {i : Int32} {v : Option Nat} {P2 : Nat} (C : xC2 p m c s args Γ cc nL own) (hX : xX Γ γ S H) (hS : va_S (yA Γ) s.heap H locs) (hl : ls.size = nL) (hp : P < 64) (hkd : xkd P = 9) (h2 : xep P = P2) (e1 : xlg S P (some o) i = some v) (q : Cond.methodLink own idx ⟨"java/util/List", "get", "(I)Ljava/lang/Object;"⟩ ∈ lw_all) (hR : 3 ≤ R.frames ∧ 64 ≤ R.locals) (hf : cells ≤ R.cells ∧ slots ≤ R.slots) (hW : (rest.map fun v => v.category).sum ≤ 8) (hdg : decode cc pc = .ok (.invokeinterface idx ct, 5))
    (kk : ∀ (H : Heap) (locs : List Loc), xX Γ γ S H → va_S (yA Γ) s.heap H locs → W p l e R s m args below meth c H locs cells slots Q (F0 m (pc + 5) ls (xv γ P2 v :: rest))) : W p l e R s m args below meth c H locs cells slots Q (F0 m pc ls (.int i :: .ref (ad γ P o) :: rest)) := by
  subst h2
  obtain ⟨o2, e2, ⟨ho, hi, h31⟩, rfl⟩ := rb_s e1
  cases e2
  refine va_callFq (va_runF (As := [.int i]) (rest := rest) (C.1.2.1.1 25 _ (rfl : xCl[25]? = some (RJ2, TJ2, 3))).2 C.1.1 (cJ_get l Γ γ S i hp hkd ho hi h31) (va_cwF (x := ⟨"java/util/List", "get", "(I)Ljava/lang/Object;"⟩) 1 C.1.1.2.2.2.2 (lw_app (by intro w hw; simp only [List.mem_cons, List.not_mem_nil, or_false] at hw; rcases hw with e | e | e | e <;> rw [e]; exact q; exact q441; exact q443; exact q107) (lw_meth q445)) rfl rfl rfl (C.2.2.1 ("get", "(I)Ljava/lang/Object;") (by decide)) (by decide +kernel) hR) (xPreL C hX hS hp hkd ho) rfl rfl hl rfl (lv_room hW) hdg hf) hS (fun q _ h => h) (fun q h => h) (fun x u t H1 locs1 ht hvm hw hB hz hk hS1 => ?_)
  subst hw
  exact kk H1 locs1 (by rw [← ht]; exact hB) hS1
end XLISTS
