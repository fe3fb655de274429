/-! THE REFERENCE'S WORLD (M: ValleyGuidesModel): one object whose arrays never change their places. Its pure state: int fields, long fields, int and boolean arrays, long arrays, by the fields' numbers -/
abbrev mS : Type := (Nat → Int32) × (Nat → Int64) × (Nat → Nat → Int32) × (Nat → Nat → Int64)
def gI (S : mS) (k : Nat) : Int32 := S.1 k
def gJ (S : mS) (k : Nat) : Int64 := S.2.1 k
def gA (S : mS) (k : Nat) : Nat → Int32 := S.2.2.1 k
def gB (S : mS) (k : Nat) : Nat → Int64 := S.2.2.2 k
def sI (S : mS) (k : Nat) (v : Int32) : mS := (fun j => if j = k then v else S.1 j, S.2.1, S.2.2.1, S.2.2.2)
def sJ (S : mS) (k : Nat) (v : Int64) : mS := (S.1, fun j => if j = k then v else S.2.1 j, S.2.2.1, S.2.2.2)
def sA (S : mS) (k i : Nat) (v : Int32) : mS := (S.1, S.2.1, fun j => if j = k then upd (S.2.2.1 k) i v else S.2.2.1 j, S.2.2.2)
def sB (S : mS) (k i : Nat) (v : Int64) : mS := (S.1, S.2.1, S.2.2.1, fun j => if j = k then vp_updL (S.2.2.2 k) i v else S.2.2.2 j)
/-! loops, by fuel; what comes of a step is the next state (inl) or the end (inr) -/
def loopO {α β : Type} (body : α → Option (α ⊕ β)) : Nat → α → Option β
  | 0, _ => none
  | n + 1, s => (body s).bind fun x => match x with
    | .inl s' => loopO body n s'
    | .inr e => some e
theorem ob {α β : Type} {x : Option α} {K : α → Option β} {r : β} (h : x.bind K = some r) : ∃ v, x = some v ∧ K v = some r := by
  cases x with
  | none => cases h
  | some v => exact ⟨v, rfl, h⟩
theorem loopO_s {α β : Type} {body : α → Option (α ⊕ β)} {n : Nat} {s : α} {r : β} (h : loopO body (n + 1) s = some r) : (∃ s', body s = some (.inl s') ∧ loopO body n s' = some r) ∨ body s = some (.inr r) := by
  obtain ⟨v, h1, h2⟩ := ob h
  cases v with
  | inl s' => exact Or.inl ⟨s', h1, h2⟩
  | inr e => cases h2; exact Or.inr h1
/-- a loop's walk: each step's walk, for whatever comes of it -/
theorem loopO_w {α β : Type} {body : α → Option (α ⊕ β)} {r : β} {G : α → Prop} (st : ∀ (s : α) (x : α ⊕ β), body s = some x → (∀ s', x = .inl s' → G s') → (x = .inr r ∨ ∃ s', x = .inl s') → G s) : ∀ (n : Nat) (s : α), loopO body n s = some r → G s := by
  intro n
  induction n with
  | zero => intro s h; cases h
  | succ n ih =>
    intro s h
    rcases loopO_s h with ⟨s', h1, h2⟩ | h1
    · exact st s _ h1 (fun s2 e => by cases e; exact ih _ h2) (Or.inr ⟨s', rfl⟩)
    · exact st s _ h1 (fun s2 e => by cases e) (Or.inl rfl)
theorem it {α : Sort _} {c : Prop} [Decidable c] {x y r : α} (hc : c) (h : (if c then x else y) = r) : x = r := by rwa [if_pos hc] at h
theorem ie {α : Sort _} {c : Prop} [Decidable c] {x y r : α} (hc : ¬ c) (h : (if c then x else y) = r) : y = r := by rwa [if_neg hc] at h
/-! what can't go on is none -/
def pI (S : mS) (k : Nat) (v : Int32) : Option mS := some (sI S k v)
def pJ (S : mS) (k : Nat) (v : Int64) : Option mS := some (sJ S k v)
def dI (x y : Int32) : Option Int32 := if y = 0 then none else some (x / y)
def rI (x y : Int32) : Option Int32 := if y = 0 then none else some (x - x / y * y)
def dJ (x y : Int64) : Option Int64 := if y = 0 then none else some (x / y)
def rJ (x y : Int64) : Option Int64 := if y = 0 then none else some (x - x / y * y)
def zR (v : Int32) : Option Int32 := if v = 0 ∨ v = 1 then some v else none
theorem dI_s {x y v : Int32} (h : dI x y = some v) : ¬ y = 0 ∧ v = x / y := by
  unfold dI at h
  by_cases e : y = 0
  · rw [if_pos e] at h; cases h
  · rw [if_neg e] at h; cases h; exact ⟨e, rfl⟩
theorem rI_s {x y v : Int32} (h : rI x y = some v) : ¬ y = 0 ∧ v = x - x / y * y := by
  unfold rI at h
  by_cases e : y = 0
  · rw [if_pos e] at h; cases h
  · rw [if_neg e] at h; cases h; exact ⟨e, rfl⟩
theorem dJ_s {x y v : Int64} (h : dJ x y = some v) : ¬ y = 0 ∧ v = x / y := by
  unfold dJ at h
  by_cases e : y = 0
  · rw [if_pos e] at h; cases h
  · rw [if_neg e] at h; cases h; exact ⟨e, rfl⟩
theorem rJ_s {x y v : Int64} (h : rJ x y = some v) : ¬ y = 0 ∧ v = x - x / y * y := by
  unfold rJ at h
  by_cases e : y = 0
  · rw [if_pos e] at h; cases h
  · rw [if_neg e] at h; cases h; exact ⟨e, rfl⟩
theorem zR_s {v w : Int32} (h : zR v = some w) : (v = 0 ∨ v = 1) ∧ w = v := by
  unfold zR at h
  by_cases e : v = 0 ∨ v = 1
  · rw [if_pos e] at h; cases h; exact ⟨e, rfl⟩
  · rw [if_neg e] at h; cases h
def mTab : List Nat := [0, 2, 0, 2, 2, 2, 2, 2, 3, 0, 2, 2, 2, 2, 2, 2, 3, 0, 2, 2, 2, 3, 2, 2, 2, 0, 0, 2, 0, 0, 0, 0, 0, 0, 0, 0, 2, 2, 2, 0, 2, 2, 2, 0, 2, 0, 2, 2, 2, 0, 2, 2, 2, 2, 0, 2, 2, 2, 2, 3, 3, 3, 2, 2, 2, 2, 2, 2, 2, 2, 2, 2, 3, 0, 2, 2, 2, 2, 4, 4, 2, 1, 1, 0, 2, 3, 2, 2, 0, 0]
def mLens : List Nat := [0, 12, 0, 20, 20, 20, 20, 20, 20, 0, 6, 36, 4, 4, 96, 12, 12, 0, 8, 8, 8, 8, 8, 8, 8, 0, 0, 240, 0, 0, 0, 0, 0, 0, 0, 0, 13, 13, 300, 0, 13, 13, 300, 0, 40, 0, 9, 300, 8, 0, 9, 81, 512, 512, 0, 8, 8, 8, 8, 8, 8, 8, 8, 8, 8, 8, 8, 8, 8, 12, 12, 12, 8, 0, 14, 14, 14, 14, 196, 14, 14, 0, 0, 0, 8, 8, 8, 8, 0, 0]
def mKd (k : Nat) : Nat := mTab.getD k 9
def mLen (k : Nat) : Nat := mLens.getD k 0
def aI (S : mS) (k : Nat) (i : Int32) : Option Int32 := if i < 0 ∨ mLen k ≤ i.toNatClampNeg then none else some (gA S k i.toNatClampNeg)
def aJ (S : mS) (k : Nat) (i : Int32) : Option Int64 := if i < 0 ∨ mLen k ≤ i.toNatClampNeg then none else some (gB S k i.toNatClampNeg)
def tI (S : mS) (k : Nat) (i v : Int32) : Option mS := if i < 0 ∨ mLen k ≤ i.toNatClampNeg then none else some (sA S k i.toNatClampNeg v)
def tZ (S : mS) (k : Nat) (i v : Int32) : Option mS := if i < 0 ∨ mLen k ≤ i.toNatClampNeg then none else some (sA S k i.toNatClampNeg (vp_nar .boolean v))
def tJ (S : mS) (k : Nat) (i : Int32) (v : Int64) : Option mS := if i < 0 ∨ mLen k ≤ i.toNatClampNeg then none else some (sB S k i.toNatClampNeg v)
theorem pt_s {α : Type} {c : Prop} [Decidable c] {x v : α} (h : (if c then none else some x) = some v) : ¬ c ∧ v = x := by
  by_cases e : c
  · rw [if_pos e] at h; cases h
  · rw [if_neg e] at h; cases h; exact ⟨e, rfl⟩
/-! the ghosts: class ids and fields' slots, the classes, the array classes, M's place among the classes, the ids of int[], boolean[], long[], the arrays' addresses by their fields, the object's address, the cells that may change -/
abbrev mGh : Type := va_G × List vw_C × List (ClassId × FieldType) × Nat × (ClassId × ClassId × ClassId) × (Nat → Nat) × Nat × (Nat → Prop)
abbrev zD (G : mGh) : va_G := G.1
abbrev zC (G : mGh) : List vw_C := G.2.1
abbrev zT (G : mGh) : List (ClassId × FieldType) := G.2.2.1
abbrev zi (G : mGh) : Nat := G.2.2.2.1
abbrev zkI (G : mGh) : ClassId := G.2.2.2.2.1.1
abbrev zkZ (G : mGh) : ClassId := G.2.2.2.2.1.2.1
abbrev zkJ (G : mGh) : ClassId := G.2.2.2.2.1.2.2
abbrev zad (G : mGh) : Nat → Nat := G.2.2.2.2.2.1
abbrev zh (G : mGh) : Nat := G.2.2.2.2.2.2.1
abbrev zA (G : mGh) : Nat → Prop := G.2.2.2.2.2.2.2
def mfv (G : mGh) (S : mS) (k : Nat) : Value := if mKd k = 0 then .int (gI S k) else if mKd k = 1 then .long (gJ S k) else .ref (zad G k)
def mfs (G : mGh) (S : mS) : List Value := (List.range 90).map (mfv G S)
def mAr : List Nat := (List.range 90).filter (fun k => decide (2 ≤ mKd k))
def mEl (G : mGh) (S : mS) (k : Nat) : va_E := if mKd k = 2 then .inl (zkI G, mLen k, .inl (gA S k)) else if mKd k = 3 then .inl (zkZ G, mLen k, .inl (gA S k)) else .inl (zkJ G, mLen k, .inr (.inl (gB S k)))
def mW (G : mGh) (S : mS) : va_W := (zh G, .inr (zi G, mfs G S)) :: mAr.map (fun k => (zad G k, mEl G S k))
def mX (G : mGh) (S : mS) (H : Heap) : Prop := va_P (zD G) (zC G) (mW G S) H ∧ va_D (zA G) (mW G S)
def mOk (G : mGh) : Prop := (zC G)[zi G]? = some (RX3, TX3, 90) ∧ (zT G)[0]? = some (zkI G, FieldType.int) ∧ (zT G)[1]? = some (zkZ G, FieldType.boolean) ∧ (zT G)[2]? = some (zkJ G, FieldType.long)
def mU (G : mGh) (S : mS) (U : State) : Prop := mX G S U.heap ∧ va_K (zD G) (zC G) (zT G) U
def mC (p : Program) (m : MethodId) (c : Code) (s : State) (args : Array Value) (G : mGh) (cc : ByteArray) (nL : Nat) : Prop := CallFix p m c cc nL s args lw_all RX3 ∧ va_K (zD G) (zC G) (zT G) s ∧ mOk G
/-! the tables' own facts -/
theorem mKd_lt {k : Nat} (h : mKd k < 9) : k < 90 := by
  rcases Nat.lt_or_ge k 90 with q | q
  · exact q
  · have e : mTab[k]? = none := List.getElem?_eq_none q
    simp [mKd, List.getD_eq_getElem?_getD, e] at h
theorem mT1 : ∀ k, k < 90 → (TX3 k).1 = RX3 := by decide +kernel
theorem mTy0 : ∀ k, k < 90 → mKd k = 0 → tyX3 k = .int ∧ (TX3 k).2.2.2 = false := by decide +kernel
theorem mTy1 : ∀ k, k < 90 → mKd k = 1 → tyX3 k = .long ∧ (TX3 k).2.2.2 = false := by decide +kernel
theorem mapset {β : Type} {L : List Nat} (hn : L.Nodup) {f g : Nat → β} {j k : Nat} (hj : L[j]? = some k) (ho : ∀ i, i ≠ k → g i = f i) : (L.map f).set j (g k) = L.map g := by
  have hjl : j < L.length := (List.getElem?_eq_some_iff.mp hj).1
  apply List.ext_getElem?
  intro i
  rw [List.getElem?_set, List.getElem?_map, List.getElem?_map]
  by_cases e : j = i
  · subst e
    have hk := (List.getElem?_eq_some_iff.mp hj).2
    simp [hjl, hk]
  · rw [if_neg e]
    cases hx : L[i]? with
    | none => rfl
    | some x =>
      have hne : x ≠ k := fun q => e ((List.getElem?_inj hjl hn).mp (by rw [hj, hx, q]))
      simp [ho x hne]
theorem mfs_get {G : mGh} {S : mS} {k : Nat} (hk : k < 90) : (mfs G S)[k]? = some (mfv G S k) := by
  unfold mfs
  rw [List.getElem?_map, List.getElem?_range hk]
  rfl
theorem mfs_set {G : mGh} {S S' : mS} {k : Nat} {v : Value} (hk : k < 90) (h1 : mfv G S' k = v) (h2 : ∀ j, j ≠ k → mfv G S' j = mfv G S j) : (mfs G S).set k v = mfs G S' := by
  subst h1
  exact mapset List.nodup_range (List.getElem?_range hk) h2
theorem mAr_nd : mAr.Nodup := by decide +kernel
theorem mAr_at {k : Nat} (h : 2 ≤ mKd k) (h9 : mKd k < 9) : ∃ j : Nat, mAr[j]? = some k := List.getElem?_of_mem (List.mem_filter.mpr ⟨List.mem_range.mpr (mKd_lt h9), by simpa using h⟩)
theorem mW_at {G : mGh} {S : mS} {k j : Nat} (h : mAr[j]? = some k) : (mW G S)[j + 1]? = some (zad G k, mEl G S k) := by
  show (mAr.map (fun k => (zad G k, mEl G S k)))[j]? = _
  rw [List.getElem?_map, h]
  rfl
theorem mW_set {G : mGh} {S S' : mS} {k j : Nat} {e : va_E} (h : mAr[j]? = some k) (hf : mfs G S' = mfs G S) (h1 : mEl G S' k = e) (h2 : ∀ i, i ≠ k → mEl G S' i = mEl G S i) : (mW G S).set (j + 1) (zad G k, e) = mW G S' := by
  subst h1
  unfold mW
  rw [hf]
  show _ :: (mAr.map (fun k => (zad G k, mEl G S k))).set j _ = _
  rw [mapset (f := fun k => (zad G k, mEl G S k)) (g := fun k => (zad G k, mEl G S' k)) mAr_nd h (fun i hi => by rw [h2 i hi])]
theorem gI_sI {S : mS} {k j : Nat} {v : Int32} : gI (sI S k v) j = if j = k then v else gI S j := rfl
theorem gJ_sJ {S : mS} {k j : Nat} {v : Int64} : gJ (sJ S k v) j = if j = k then v else gJ S j := rfl
theorem gA_sA {S : mS} {k j i : Nat} {v : Int32} : gA (sA S k i v) j = if j = k then upd (gA S k) i v else gA S j := rfl
theorem gB_sB {S : mS} {k j i : Nat} {v : Int64} : gB (sB S k i v) j = if j = k then vp_updL (gB S k) i v else gB S j := rfl
theorem gJ_sI {S : mS} {k j : Nat} {v : Int32} : gJ (sI S k v) j = gJ S j := rfl
theorem gA_sI {S : mS} {k j : Nat} {v : Int32} : gA (sI S k v) j = gA S j := rfl
theorem gB_sI {S : mS} {k j : Nat} {v : Int32} : gB (sI S k v) j = gB S j := rfl
theorem gI_sJ {S : mS} {k j : Nat} {v : Int64} : gI (sJ S k v) j = gI S j := rfl
theorem gA_sJ {S : mS} {k j : Nat} {v : Int64} : gA (sJ S k v) j = gA S j := rfl
theorem gB_sJ {S : mS} {k j : Nat} {v : Int64} : gB (sJ S k v) j = gB S j := rfl
theorem gI_sA {S : mS} {k j i : Nat} {v : Int32} : gI (sA S k i v) j = gI S j := rfl
theorem gJ_sA {S : mS} {k j i : Nat} {v : Int32} : gJ (sA S k i v) j = gJ S j := rfl
theorem gB_sA {S : mS} {k j i : Nat} {v : Int32} : gB (sA S k i v) j = gB S j := rfl
theorem gI_sB {S : mS} {k j i : Nat} {v : Int64} : gI (sB S k i v) j = gI S j := rfl
theorem gJ_sB {S : mS} {k j i : Nat} {v : Int64} : gJ (sB S k i v) j = gJ S j := rfl
theorem gA_sB {S : mS} {k j i : Nat} {v : Int64} : gA (sB S k i v) j = gA S j := rfl
theorem mX.kept {G : mGh} {S : mS} {H H1 : Heap} (h : mX G S H) (hk : ∀ q : Nat, q < H.size → H1[q]? = H[q]?) : mX G S H1 := ⟨h.1.kept (fun k q hq => hk _ (h.1 k q hq).lt), h.2⟩
section MROWS
variable {p : Program} {l : Launch} {e : Env} {R : Room} {s : State} {m : MethodId} {args : Array Value} {below : List Frame} {meth : Method} {c : Code} {H : Heap} {locs : List Loc} {Q : State → Prop} {G : mGh} {cc : ByteArray} {nL pc : Nat} {ls : Array Slot} {rest : List Value} {S S2 : mS} {k idx : Nat}
theorem m_gi (C : mC p m c s args G cc nL) (q : Cond.fieldLink RX3 idx RX3 (TX3 k).2.1 (TX3 k).2.2.1 ∈ lw_all) (hm : mKd k = 0) (hX : mX G S H) (hdg : decode cc pc = .ok (.getfield idx, 3))
    (kk : W p l e R s m args below meth c H locs 0 0 Q (F0 m (pc + 3) ls (.int (gI S k) :: rest))) : W p l e R s m args below meth c H locs 0 0 Q (F0 m pc ls (.ref (zh G) :: rest)) := by
  obtain ⟨⟨hx, hb, hml, hown, hts⟩, hK, hok⟩ := C
  have hk : k < 90 := mKd_lt (by rw [hm]; decide)
  exact va_get (v := .int (gI S k)) (C := RX3) (T := TX3) (N := 90) hx hb hts in_X3 hown hK hX.1 0 rfl hok.1 k hk (hts _ q) (fun x h9 => by rw [mT1 k hk] at h9; exact h9) (by rw [mfs_get hk]; simp [mfv, hm]) hdg kk
theorem m_gj (C : mC p m c s args G cc nL) (q : Cond.fieldLink RX3 idx RX3 (TX3 k).2.1 (TX3 k).2.2.1 ∈ lw_all) (hm : mKd k = 1) (hX : mX G S H) (hdg : decode cc pc = .ok (.getfield idx, 3))
    (kk : W p l e R s m args below meth c H locs 0 0 Q (F0 m (pc + 3) ls (.long (gJ S k) :: rest))) : W p l e R s m args below meth c H locs 0 0 Q (F0 m pc ls (.ref (zh G) :: rest)) := by
  obtain ⟨⟨hx, hb, hml, hown, hts⟩, hK, hok⟩ := C
  have hk : k < 90 := mKd_lt (by rw [hm]; decide)
  exact va_get (v := .long (gJ S k)) (C := RX3) (T := TX3) (N := 90) hx hb hts in_X3 hown hK hX.1 0 rfl hok.1 k hk (hts _ q) (fun x h9 => by rw [mT1 k hk] at h9; exact h9) (by rw [mfs_get hk]; simp [mfv, hm]) hdg kk
theorem m_ga (C : mC p m c s args G cc nL) (q : Cond.fieldLink RX3 idx RX3 (TX3 k).2.1 (TX3 k).2.2.1 ∈ lw_all) {d : Nat} (hm : mKd k = d + 2) (hd : d < 7) (hX : mX G S H) (hdg : decode cc pc = .ok (.getfield idx, 3))
    (kk : W p l e R s m args below meth c H locs 0 0 Q (F0 m (pc + 3) ls (.ref (zad G k) :: rest))) : W p l e R s m args below meth c H locs 0 0 Q (F0 m pc ls (.ref (zh G) :: rest)) := by
  obtain ⟨⟨hx, hb, hml, hown, hts⟩, hK, hok⟩ := C
  have hk : k < 90 := mKd_lt (by omega)
  exact va_get (v := .ref (zad G k)) (C := RX3) (T := TX3) (N := 90) hx hb hts in_X3 hown hK hX.1 0 rfl hok.1 k hk (hts _ q) (fun x h9 => by rw [mT1 k hk] at h9; exact h9) (by rw [mfs_get hk]; unfold mfv; rw [if_neg (by omega), if_neg (by omega)]) hdg kk
theorem m_pi {x : Int32} (C : mC p m c s args G cc nL) (q : Cond.fieldLink RX3 idx RX3 (TX3 k).2.1 (TX3 k).2.2.1 ∈ lw_all) (hm : mKd k = 0) (hX : mX G S H) (hS : va_S (zA G) s.heap H locs) (e2 : pI S k x = some S2) (hdg : decode cc pc = .ok (.putfield idx, 3))
    (kk : ∀ (H : Heap) (locs : List Loc), mX G S2 H → va_S (zA G) s.heap H locs → W p l e R s m args below meth c H locs 0 0 Q (F0 m (pc + 3) ls rest)) : W p l e R s m args below meth c H locs 0 0 Q (F0 m pc ls (.int x :: .ref (zh G) :: rest)) := by
  cases e2
  obtain ⟨⟨hx, hb, hml, hown, hts⟩, hK, hok⟩ := C
  have hk : k < 90 := mKd_lt (by rw [hm]; decide)
  have e : (mW G S).set 0 (zh G, .inr (zi G, (mfs G S).set k (.int x))) = mW G (sI S k x) := by
    rw [mfs_set (S' := sI S k x) hk (by simp [mfv, hm, gI_sI]) (fun j hj => by simp [mfv, gI_sI, gJ_sI, hj])]
    rfl
  refine va_put (v := .int x) (ty := .int) (C := RX3) (T := TX3) (N := 90) hx hb hts in_X3 tyX3 tyX3_ok nmX3 hown hK hX.1 hX.2 hS 0 rfl hok.1 k hk (hts _ q) (fun x h9 => by rw [mT1 k hk] at h9; exact h9) (mTy0 k hk hm).2 (by rw [tyX3_ok k hk, (mTy0 k hk hm).1]) rfl rfl (by simp [mfs, hk]) hdg (fun H1 locs1 hP hD hS1 => ?_)
  rw [e] at hP hD
  exact kk H1 locs1 ⟨hP, hD⟩ hS1
theorem m_pj {x : Int64} (C : mC p m c s args G cc nL) (q : Cond.fieldLink RX3 idx RX3 (TX3 k).2.1 (TX3 k).2.2.1 ∈ lw_all) (hm : mKd k = 1) (hX : mX G S H) (hS : va_S (zA G) s.heap H locs) (e2 : pJ S k x = some S2) (hdg : decode cc pc = .ok (.putfield idx, 3))
    (kk : ∀ (H : Heap) (locs : List Loc), mX G S2 H → va_S (zA G) s.heap H locs → W p l e R s m args below meth c H locs 0 0 Q (F0 m (pc + 3) ls rest)) : W p l e R s m args below meth c H locs 0 0 Q (F0 m pc ls (.long x :: .ref (zh G) :: rest)) := by
  cases e2
  obtain ⟨⟨hx, hb, hml, hown, hts⟩, hK, hok⟩ := C
  have hk : k < 90 := mKd_lt (by rw [hm]; decide)
  have e : (mW G S).set 0 (zh G, .inr (zi G, (mfs G S).set k (.long x))) = mW G (sJ S k x) := by
    rw [mfs_set (S' := sJ S k x) hk (by simp [mfv, hm, gJ_sJ]) (fun j hj => by simp [mfv, gJ_sJ, gI_sJ, hj])]
    rfl
  refine va_put (v := .long x) (ty := .long) (C := RX3) (T := TX3) (N := 90) hx hb hts in_X3 tyX3 tyX3_ok nmX3 hown hK hX.1 hX.2 hS 0 rfl hok.1 k hk (hts _ q) (fun x h9 => by rw [mT1 k hk] at h9; exact h9) (mTy1 k hk hm).2 (by rw [tyX3_ok k hk, (mTy1 k hk hm).1]) rfl rfl (by simp [mfs, hk]) hdg (fun H1 locs1 hP hD hS1 => ?_)
  rw [e] at hP hD
  exact kk H1 locs1 ⟨hP, hD⟩ hS1
theorem m_ia {i v : Int32} (C : mC p m c s args G cc nL) (hm : mKd k = 2) (hX : mX G S H) (e1 : aI S k i = some v) (hdg : decode cc pc = .ok (.iaload, 1))
    (kk : W p l e R s m args below meth c H locs 0 0 Q (F0 m (pc + 1) ls (.int v :: rest))) : W p l e R s m args below meth c H locs 0 0 Q (F0 m pc ls (.int i :: .ref (zad G k) :: rest)) := by
  obtain ⟨⟨hx, hb, hml, hown, hts⟩, hK, hok⟩ := C
  obtain ⟨hin, rfl⟩ := pt_s e1
  obtain ⟨j, hj⟩ := mAr_at (k := k) (by omega) (by omega)
  exact va_iald hx hb hK hX.1 (j + 1) 0 (by rw [mW_at hj, mEl, if_pos hm]) hok.2.1 hin hdg kk
theorem m_za {i v : Int32} (C : mC p m c s args G cc nL) (hm : mKd k = 3) (hX : mX G S H) (e1 : aI S k i = some v) (hdg : decode cc pc = .ok (.baload, 1))
    (kk : W p l e R s m args below meth c H locs 0 0 Q (F0 m (pc + 1) ls (.int v :: rest))) : W p l e R s m args below meth c H locs 0 0 Q (F0 m pc ls (.int i :: .ref (zad G k) :: rest)) := by
  obtain ⟨⟨hx, hb, hml, hown, hts⟩, hK, hok⟩ := C
  obtain ⟨hin, rfl⟩ := pt_s e1
  obtain ⟨j, hj⟩ := mAr_at (k := k) (by omega) (by omega)
  exact va_zald hx hb hK hX.1 (j + 1) 1 (by rw [mW_at hj, mEl, if_neg (by omega), if_pos hm]) hok.2.2.1 hin hdg kk
theorem m_ja {i : Int32} {v : Int64} (C : mC p m c s args G cc nL) (hm : mKd k = 4) (hX : mX G S H) (e1 : aJ S k i = some v) (hdg : decode cc pc = .ok (.laload, 1))
    (kk : W p l e R s m args below meth c H locs 0 0 Q (F0 m (pc + 1) ls (.long v :: rest))) : W p l e R s m args below meth c H locs 0 0 Q (F0 m pc ls (.int i :: .ref (zad G k) :: rest)) := by
  obtain ⟨⟨hx, hb, hml, hown, hts⟩, hK, hok⟩ := C
  obtain ⟨hin, rfl⟩ := pt_s e1
  obtain ⟨j, hj⟩ := mAr_at (k := k) (by omega) (by omega)
  exact va_lald hx hb hK hX.1 (j + 1) 2 (by rw [mW_at hj, mEl, if_neg (by omega), if_neg (by omega)]) hok.2.2.2 hin hdg kk
theorem m_is {i v : Int32} (C : mC p m c s args G cc nL) (hm : mKd k = 2) (hX : mX G S H) (hS : va_S (zA G) s.heap H locs) (e1 : tI S k i v = some S2) (hdg : decode cc pc = .ok (.iastore, 1))
    (kk : ∀ (H : Heap) (locs : List Loc), mX G S2 H → va_S (zA G) s.heap H locs → W p l e R s m args below meth c H locs 0 0 Q (F0 m (pc + 1) ls rest)) : W p l e R s m args below meth c H locs 0 0 Q (F0 m pc ls (.int v :: .int i :: .ref (zad G k) :: rest)) := by
  obtain ⟨⟨hx, hb, hml, hown, hts⟩, hK, hok⟩ := C
  obtain ⟨hin, rfl⟩ := pt_s e1
  obtain ⟨j, hj⟩ := mAr_at (k := k) (by omega) (by omega)
  refine va_iast hx hb hK hX.1 hX.2 hS (j + 1) 0 (by rw [mW_at hj, mEl, if_pos hm]) hok.2.1 hin hdg (fun H1 locs1 hP hD hS1 => ?_)
  rw [mW_set (G := G) (S := S) (S' := sA S k i.toNatClampNeg v) hj rfl (by rw [mEl, if_pos hm, gA_sA, if_pos rfl]) (fun a ha => by simp [mEl, gA_sA, gB_sA, ha])] at hP hD
  exact kk H1 locs1 ⟨hP, hD⟩ hS1
theorem m_zs {i v : Int32} (C : mC p m c s args G cc nL) (hm : mKd k = 3) (hX : mX G S H) (hS : va_S (zA G) s.heap H locs) (e1 : tZ S k i v = some S2) (hdg : decode cc pc = .ok (.bastore, 1))
    (kk : ∀ (H : Heap) (locs : List Loc), mX G S2 H → va_S (zA G) s.heap H locs → W p l e R s m args below meth c H locs 0 0 Q (F0 m (pc + 1) ls rest)) : W p l e R s m args below meth c H locs 0 0 Q (F0 m pc ls (.int v :: .int i :: .ref (zad G k) :: rest)) := by
  obtain ⟨⟨hx, hb, hml, hown, hts⟩, hK, hok⟩ := C
  obtain ⟨hin, rfl⟩ := pt_s e1
  obtain ⟨j, hj⟩ := mAr_at (k := k) (by omega) (by omega)
  refine va_zast hx hb hK hX.1 hX.2 hS (j + 1) 1 (by rw [mW_at hj, mEl, if_neg (by omega), if_pos hm]) hok.2.2.1 hin hdg (fun H1 locs1 hP hD hS1 => ?_)
  rw [mW_set (G := G) (S := S) (S' := sA S k i.toNatClampNeg (vp_nar .boolean v)) hj rfl (by rw [mEl, if_neg (by omega), if_pos hm, gA_sA, if_pos rfl]) (fun a ha => by simp [mEl, gA_sA, gB_sA, ha])] at hP hD
  exact kk H1 locs1 ⟨hP, hD⟩ hS1
theorem m_js {i : Int32} {v : Int64} (C : mC p m c s args G cc nL) (hm : mKd k = 4) (hX : mX G S H) (hS : va_S (zA G) s.heap H locs) (e1 : tJ S k i v = some S2) (hdg : decode cc pc = .ok (.lastore, 1))
    (kk : ∀ (H : Heap) (locs : List Loc), mX G S2 H → va_S (zA G) s.heap H locs → W p l e R s m args below meth c H locs 0 0 Q (F0 m (pc + 1) ls rest)) : W p l e R s m args below meth c H locs 0 0 Q (F0 m pc ls (.long v :: .int i :: .ref (zad G k) :: rest)) := by
  obtain ⟨⟨hx, hb, hml, hown, hts⟩, hK, hok⟩ := C
  obtain ⟨hin, rfl⟩ := pt_s e1
  obtain ⟨j, hj⟩ := mAr_at (k := k) (by omega) (by omega)
  refine va_last hx hb hK hX.1 hX.2 hS (j + 1) 2 (by rw [mW_at hj, mEl, if_neg (by omega), if_neg (by omega)]) hok.2.2.2 hin hdg (fun H1 locs1 hP hD hS1 => ?_)
  rw [mW_set (G := G) (S := S) (S' := sB S k i.toNatClampNeg v) hj rfl (by rw [mEl, if_neg (by omega), if_neg (by omega), gB_sB, if_pos rfl]) (fun a ha => by simp [mEl, gA_sB, gB_sB, ha])] at hP hD
  exact kk H1 locs1 ⟨hP, hD⟩ hS1
theorem m_id {x y v : Int32} (C : mC p m c s args G cc nL) (e1 : dI x y = some v) (hdg : decode cc pc = .ok (.idiv, 1))
    (kk : W p l e R s m args below meth c H locs 0 0 Q (F0 m (pc + 1) ls (.int v :: rest))) : W p l e R s m args below meth c H locs 0 0 Q (F0 m pc ls (.int y :: .int x :: rest)) := by
  obtain ⟨hne, rfl⟩ := dI_s e1
  exact lv_idiv C.1.1 C.1.2.1 hdg hne kk
theorem m_ir {x y v : Int32} (C : mC p m c s args G cc nL) (e1 : rI x y = some v) (hdg : decode cc pc = .ok (.irem, 1))
    (kk : W p l e R s m args below meth c H locs 0 0 Q (F0 m (pc + 1) ls (.int v :: rest))) : W p l e R s m args below meth c H locs 0 0 Q (F0 m pc ls (.int y :: .int x :: rest)) := by
  obtain ⟨hne, rfl⟩ := rI_s e1
  exact lv_irem C.1.1 C.1.2.1 hdg hne kk
theorem m_jd {x y v : Int64} (C : mC p m c s args G cc nL) (e1 : dJ x y = some v) (hdg : decode cc pc = .ok (.ldiv, 1))
    (kk : W p l e R s m args below meth c H locs 0 0 Q (F0 m (pc + 1) ls (.long v :: rest))) : W p l e R s m args below meth c H locs 0 0 Q (F0 m pc ls (.long y :: .long x :: rest)) := by
  obtain ⟨hne, rfl⟩ := dJ_s e1
  exact lv_ldiv C.1.1 C.1.2.1 hdg hne kk
theorem m_jr {x y v : Int64} (C : mC p m c s args G cc nL) (e1 : rJ x y = some v) (hdg : decode cc pc = .ok (.lrem, 1))
    (kk : W p l e R s m args below meth c H locs 0 0 Q (F0 m (pc + 1) ls (.long v :: rest))) : W p l e R s m args below meth c H locs 0 0 Q (F0 m pc ls (.long y :: .long x :: rest)) := by
  obtain ⟨hne, rfl⟩ := rJ_s e1
  exact lv_lrem C.1.1 C.1.2.1 hdg hne kk
/-! calls: of M's own methods on the object; of its static ones, which touch nothing -/
abbrev mPc (G : mGh) (As : List Value) (S : mS) : Array Value → State → Prop := va_Pc (.ref (zh G) :: As) (mU G S)
abbrev mQi (G : mGh) (r : Int32) (S2 : mS) : Array Value → State → Outcome → State → Prop := va_Qi (fun x (_ : Unit) => x = r) (fun _ t => mX G S2 t.heap) (zA G)
abbrev mQl (G : mGh) (r : Int64) (S2 : mS) : Array Value → State → Outcome → State → Prop := va_Ql (fun x (_ : Unit) => x = r) (fun _ t => mX G S2 t.heap) (zA G)
abbrev mQv (G : mGh) (S2 : mS) : Array Value → State → Outcome → State → Prop := va_Qv (fun (_ : Unit) => True) (fun _ t => mX G S2 t.heap) (zA G)
theorem mU_blind {G : mGh} {S : mS} {As : List Value} : FrameBlind (mPc G As S) := fun a U g mk q => ⟨q.1, q.2.1, va_K.moved (u := U) (U := U.calling g mk a) (Vm.Alike.refl U.vm) q.2.2⟩
variable {As st0 : List Value} {r : Int32} {rj : Int64} {y : MethodName} {b : ByteArray} {L n : Nat} {ty : FieldType} {rm : Room} {ret : Option FieldType} {wsy : List Cond}
theorem mPre {G : mGh} {S : mS} {As : List Value} {H : Heap} (C : mC p m c s args G cc nL) (hX : mX G S H) : PreV s H RX3 (zh G) (mPc G As S) As :=
  ⟨mU_blind, va_recv C.2.1 hX.1 C.2.2.1 (q0 := 0) rfl, fun U hU hW => ⟨rfl, by rw [hU]; exact hX, va_K.moved hW.alike C.2.1⟩⟩
theorem m_cvi (C : mC p m c s args G cc nL) (hX : mX G S H) (hS : va_S (zA G) s.heap H locs) (hl : ls.size = nL) (hM : Met l y wsy rm (mPc G As S) (mQi G r S2) 0 0 (zA G)) (cw : CallW R s args RX3 RX3 idx y b L ret wsy rm 0 0 n) (hn : As.length = n) (hst : st0 = As.reverse ++ .ref (zh G) :: rest) (hW : (rest.map fun v => v.category).sum ≤ 8) (hdg : decode cc pc = .ok (.invokevirtual idx, 3))
    (kk : ∀ (H : Heap) (locs : List Loc), mX G S2 H → va_S (zA G) s.heap H locs → W p l e R s m args below meth c H locs 0 0 Q (F0 m (pc + 3) ls (.int r :: rest))) : W p l e R s m args below meth c H locs 0 0 Q (F0 m pc ls st0) := by
  refine va_calli (va_runV (rest := rest) C.1 hM cw (mPre C hX) rfl hn hl hst (lv_room hW) hdg ⟨Nat.zero_le _, Nat.zero_le _⟩) hS (fun q _ h => h) (fun q h => h) (fun x u t H1 locs1 ht hvm hw hB hz hk hS1 => ?_)
  subst hw
  exact kk H1 locs1 (by rw [← ht]; exact hB) hS1
theorem m_cvl (C : mC p m c s args G cc nL) (hX : mX G S H) (hS : va_S (zA G) s.heap H locs) (hl : ls.size = nL) (hM : Met l y wsy rm (mPc G As S) (mQl G rj S2) 0 0 (zA G)) (cw : CallW R s args RX3 RX3 idx y b L ret wsy rm 0 0 n) (hn : As.length = n) (hst : st0 = As.reverse ++ .ref (zh G) :: rest) (hW : (rest.map fun v => v.category).sum ≤ 8) (hdg : decode cc pc = .ok (.invokevirtual idx, 3))
    (kk : ∀ (H : Heap) (locs : List Loc), mX G S2 H → va_S (zA G) s.heap H locs → W p l e R s m args below meth c H locs 0 0 Q (F0 m (pc + 3) ls (.long rj :: rest))) : W p l e R s m args below meth c H locs 0 0 Q (F0 m pc ls st0) := by
  refine va_calll (va_runV (rest := rest) C.1 hM cw (mPre C hX) rfl hn hl hst (lv_room hW) hdg ⟨Nat.zero_le _, Nat.zero_le _⟩) hS (fun q _ h => h) (fun q h => h) (fun x u t H1 locs1 ht hvm hw hB hz hk hS1 => ?_)
  subst hw
  exact kk H1 locs1 (by rw [← ht]; exact hB) hS1
theorem m_cvv (C : mC p m c s args G cc nL) (hX : mX G S H) (hS : va_S (zA G) s.heap H locs) (hl : ls.size = nL) (hM : Met l y wsy rm (mPc G As S) (mQv G S2) 0 0 (zA G)) (cw : CallW R s args RX3 RX3 idx y b L ret wsy rm 0 0 n) (hn : As.length = n) (hst : st0 = As.reverse ++ .ref (zh G) :: rest) (hW : (rest.map fun v => v.category).sum ≤ 8) (hdg : decode cc pc = .ok (.invokevirtual idx, 3))
    (kk : ∀ (H : Heap) (locs : List Loc), mX G S2 H → va_S (zA G) s.heap H locs → W p l e R s m args below meth c H locs 0 0 Q (F0 m (pc + 3) ls rest)) : W p l e R s m args below meth c H locs 0 0 Q (F0 m pc ls st0) := by
  refine va_callv (va_runV (rest := rest) C.1 hM cw (mPre C hX) rfl hn hl hst (lv_room hW) hdg ⟨Nat.zero_le _, Nat.zero_le _⟩) hS (fun q _ h => h) (fun q h => h) (fun u t H1 locs1 ht hvm hw hB hz hk hS1 => ?_)
  exact kk H1 locs1 (by rw [← ht]; exact hB) hS1
/-- a static method on numbers: nothing changes -/
abbrev nPc (As : List Value) : Array Value → State → Prop := va_Pc As (fun _ => True)
abbrev nQi (r : Int32) : Array Value → State → Outcome → State → Prop := va_Qi (fun x (_ : Unit) => x = r) (fun _ _ => True) (fun _ => False)
abbrev nQl (r : Int64) : Array Value → State → Outcome → State → Prop := va_Ql (fun x (_ : Unit) => x = r) (fun _ _ => True) (fun _ => False)
theorem n_pre {As : List Value} {H : Heap} : PreS s H (nPc As) As := ⟨fun a U g mk q => ⟨q.1, trivial⟩, fun U hU hW => ⟨rfl, trivial⟩⟩
theorem m_csi (C : mC p m c s args G cc nL) (hX : mX G S H) (hS : va_S (zA G) s.heap H locs) (hl : ls.size = nL) (hM : Met l y wsy rm (nPc As) (nQi r) 0 0 (fun _ => False)) (cw : CallB R s args RX3 idx y b L ret wsy rm 0 0 n ∧ (Cond.static y).before args s = true) (hn : As.length = n) (hst : st0 = As.reverse ++ rest) (hW : (rest.map fun v => v.category).sum ≤ 8) (hdg : decode cc pc = .ok (.invokestatic idx, 3))
    (kk : ∀ (H : Heap) (locs : List Loc), mX G S H → va_S (zA G) s.heap H locs → W p l e R s m args below meth c H locs 0 0 Q (F0 m (pc + 3) ls (.int r :: rest))) : W p l e R s m args below meth c H locs 0 0 Q (F0 m pc ls st0) := by
  refine va_calli (va_runS (rest := rest) C.1 hM cw n_pre rfl hn hl hst (lv_room hW) hdg ⟨Nat.zero_le _, Nat.zero_le _⟩) hS (fun q _ h => h.elim) (fun q h => h.elim) (fun x u t H1 locs1 ht hvm hw hB hz hk hS1 => ?_)
  subst hw
  exact kk H1 locs1 (hX.kept (fun q hq => hk q hq (fun h => h))) hS1
end MROWS
section MMET
variable {p : Program} {l : Launch} {e : Env} {R : Room} {s : State} {m : MethodId} {args : Array Value} {below : List Frame} {meth : Method} {c : Code} {H : Heap} {locs : List Loc} {Q : State → Prop} {G : mGh} {cc : ByteArray} {nL pc : Nat} {ls : Array Slot} {S S2 : mS}
theorem m_ent {vs : List Value} {n : Nat} (h : (lg_sl vs).length ≤ n) (kk : ∀ ls, lv_has ls n (lv_args 0 vs) → W p l e R s m args below meth c H locs 0 0 Q (F0 m 0 ls [])) : W p l e R s m args below meth c H locs 0 0 Q (entryFrame m vs.toArray n) := by
  rw [lg_entry_eq]
  exact kk _ (lv_entry vs h)
theorem m_ri {v r : Int32} {C : mC p m c s args G cc nL} (hret : meth.sig.returnType = some .int) (hlk : meth.locks = false) (hX : mX G S2 H) (hS : va_S (zA G) s.heap H locs) (e1 : v = r) (hdg : decode cc pc = .ok (.ireturn, 1)) : W p l e R s m args below meth c H locs 0 0 (MQ below (mQi G r S2) args s 0 0 (zA G)) (F0 m pc ls [.int v]) := by
  subst e1
  exact W.iret (v := v) C.1.1 C.1.2.1 hret (fun t ht hW => ⟨⟨v, (), rfl, rfl, by subst ht; exact hX⟩, hS.F ht⟩) hS.2.2 hdg
theorem nz_01 {v : Int32} (h : v = 0 ∨ v = 1) : narrow .boolean (.int v) = .int v := by
  rcases h with rfl | rfl <;> rfl
theorem m_rz {v r : Int32} {C : mC p m c s args G cc nL} (hret : meth.sig.returnType = some .boolean) (hlk : meth.locks = false) (hX : mX G S2 H) (hS : va_S (zA G) s.heap H locs) (h01 : v = 0 ∨ v = 1) (e1 : v = r) (hdg : decode cc pc = .ok (.ireturn, 1)) : W p l e R s m args below meth c H locs 0 0 (MQ below (mQi G r S2) args s 0 0 (zA G)) (F0 m pc ls [.int v]) := by
  subst e1
  exact W.zret (v := v) C.1.1 C.1.2.1 hret (nz_01 h01) (fun t ht hW => ⟨⟨v, (), rfl, rfl, by subst ht; exact hX⟩, hS.F ht⟩) hS.2.2 hdg
theorem m_rl {v r : Int64} {C : mC p m c s args G cc nL} (hret : meth.sig.returnType = some .long) (hlk : meth.locks = false) (hX : mX G S2 H) (hS : va_S (zA G) s.heap H locs) (e1 : v = r) (hdg : decode cc pc = .ok (.lreturn, 1)) : W p l e R s m args below meth c H locs 0 0 (MQ below (mQl G r S2) args s 0 0 (zA G)) (F0 m pc ls [.long v]) := by
  subst e1
  exact W.lret (v := v) C.1.1 C.1.2.1 hret (fun t ht hW => ⟨⟨v, (), rfl, rfl, by subst ht; exact hX⟩, hS.F ht⟩) hS.2.2 hdg
theorem m_rv {C : mC p m c s args G cc nL} (hret : meth.sig.returnType = none) (hlk : meth.locks = false) (hX : mX G S2 H) (hS : va_S (zA G) s.heap H locs) (hdg : decode cc pc = .ok (.return_, 1)) : W p l e R s m args below meth c H locs 0 0 (MQ below (mQv G S2) args s 0 0 (zA G)) (F0 m pc ls []) :=
  W.vret C.1.1 C.1.2.1 hret (fun t ht hW => ⟨⟨(), rfl, trivial, by subst ht; exact hX⟩, hS.F ht⟩) hS.2.2 hdg
theorem n_ri {v r : Int32} (hx : p.tables.exec = Jvm.exec) (hb : c.code = cc) (hret : meth.sig.returnType = some .int) (hlk : meth.locks = false) (e1 : v = r) (hdg : decode cc pc = .ok (.ireturn, 1)) : W p l e R s m args below meth c s.heap [] 0 0 (MQ below (nQi r) args s 0 0 (fun _ => False)) (F0 m pc ls [.int v]) := by
  subst e1
  exact W.iret (v := v) hx hb hret (fun t ht hW => ⟨⟨v, (), rfl, rfl, trivial⟩, by rw [ht]; exact Nat.le_refl _, fun q _ _ => by rw [ht]⟩) (fun _ h => by cases h) hdg
theorem n_rz {v r : Int32} (hx : p.tables.exec = Jvm.exec) (hb : c.code = cc) (hret : meth.sig.returnType = some .boolean) (hlk : meth.locks = false) (h01 : v = 0 ∨ v = 1) (e1 : v = r) (hdg : decode cc pc = .ok (.ireturn, 1)) : W p l e R s m args below meth c s.heap [] 0 0 (MQ below (nQi r) args s 0 0 (fun _ => False)) (F0 m pc ls [.int v]) := by
  subst e1
  exact W.zret (v := v) hx hb hret (nz_01 h01) (fun t ht hW => ⟨⟨v, (), rfl, rfl, trivial⟩, by rw [ht]; exact Nat.le_refl _, fun q _ _ => by rw [ht]⟩) (fun _ h => by cases h) hdg
/-- behind a region or a loop: which way out -/
def sumK {α β γ : Type} (K : α → Option β) (J : γ → Option β) : α ⊕ γ → Option β
  | .inl a => K a
  | .inr b => J b
theorem sk_l {α β γ : Type} {K : α → Option β} {J : γ → Option β} {a : α} {r : Option β} (h : sumK K J (.inl a) = r) : K a = r := h
theorem sk_r {α β γ : Type} {K : α → Option β} {J : γ → Option β} {a : γ} {r : Option β} (h : sumK K J (.inr a) = r) : J a = r := h
theorem lx {α β : Type} {v r : β} {x : α ⊕ β} (h : some (Sum.inr v : α ⊕ β) = some x) (hx : x = .inr r ∨ ∃ s', x = .inl s') : v = r := by
  cases h
  rcases hx with h | ⟨s', h⟩
  · exact Sum.inr.inj h
  · cases h
end MMET
section MJOIN
variable {p : Program} {l : Launch} {e : Env} {R : Room} {s : State} {m : MethodId} {args : Array Value} {below : List Frame} {meth : Method} {c : Code} {H : Heap} {locs : List Loc} {ls : Array Slot} {cells slots : Nat} {Q : State → Prop}
/-- paths that meet at pcJ: what holds there is said once -/
theorem m_join {α : Type} {g : JFrame} (I : α → Heap → List Loc → Array Slot → Prop) (pcJ : Nat) (st : α → List Value) (hJ : ∀ (t : α) (H : Heap) (locs : List Loc) (ls : Array Slot), I t H locs ls → W p l e R s m args below meth c H locs cells slots Q (F0 m pcJ ls (st t)))
    (hreg : (∀ (t : α) (H : Heap) (locs : List Loc) (ls : Array Slot), I t H locs ls → W p l e R s m args below meth c H locs cells slots Q (F0 m pcJ ls (st t))) → W p l e R s m args below meth c H locs cells slots Q g) : W p l e R s m args below meth c H locs cells slots Q g := hreg hJ
theorem m_loop {α β : Type} {body : α → Option (α ⊕ β)} {r : β} {n : Nat} {t0 : α} (eL : loopO body n t0 = some r) (I : α → Heap → List Loc → Array Slot → Prop) (pcL : Nat) (hi : I t0 H locs ls)
    (step : ∀ (t : α) (x : α ⊕ β), body t = some x → (x = .inr r ∨ ∃ s', x = .inl s') → (∀ s', x = .inl s' → ∀ (H : Heap) (locs : List Loc) (ls : Array Slot), I s' H locs ls → W p l e R s m args below meth c H locs cells slots Q (F0 m pcL ls [])) →
      ∀ (H : Heap) (locs : List Loc) (ls : Array Slot), I t H locs ls → W p l e R s m args below meth c H locs cells slots Q (F0 m pcL ls [])) : W p l e R s m args below meth c H locs cells slots Q (F0 m pcL ls []) :=
  loopO_w (G := fun t => ∀ (H : Heap) (locs : List Loc) (ls : Array Slot), I t H locs ls → W p l e R s m args below meth c H locs cells slots Q (F0 m pcL ls [])) (fun t x hb k hx => step t x hb hx k) n t0 eL H locs ls hi
end MJOIN
theorem lx2 {α β γ : Type} {v : β} {r : β ⊕ γ} {x : α ⊕ (β ⊕ γ)} (h : some (Sum.inr (Sum.inl v) : α ⊕ (β ⊕ γ)) = some x) (hx : x = .inr r ∨ ∃ s', x = .inl s') : r = .inl v := (lx h hx).symm
theorem lx3 {α β γ : Type} {v : γ} {r : β ⊕ γ} {x : α ⊕ (β ⊕ γ)} (h : some (Sum.inr (Sum.inr v) : α ⊕ (β ⊕ γ)) = some x) (hx : x = .inr r ∨ ∃ s', x = .inl s') : r = .inr v := (lx h hx).symm
theorem m_met {l : Launch} {y : MethodName} {G : mGh} {S : mS} {As : List Value} {ret : Option FieldType} {L : Nat} {rm : Room} {Qc : Array Value → State → Outcome → State → Prop} (cc : ByteArray) (hy : plainName y.cls = true) (hcls : y.cls = RX3) (hG : mOk G) (hn : (lg_sl (.ref (zh G) :: As)).length ≤ L)
    (body : ∀ (p : Program) (e : Env) (s : State) (m : MethodId) (args : Array Value) (below : List Frame) (meth : Method) (c : Code), mC p m c s args G cc L → meth.sig.returnType = ret → meth.locks = false → ∀ ls : Array Slot, mX G S s.heap → lv_has ls L (lv_args 0 (.ref (zh G) :: As)) →
      W p l e rm s m args below meth c s.heap [] 0 0 (MQ below Qc args s 0 0 (zA G)) (F0 m 0 ls [])) : Met l y (ws_ y cc L ret) rm (mPc G As S) Qc 0 0 (zA G) := by
  refine Met.ofW (cc := cc) (maxL := L) (ret := ret) hy rfl ?_
  intro p e s m args below meth c s₁ B hml hv
  obtain ⟨rfl, hX, hK⟩ := hv
  have hts := atoms_spec (ws := ws_ y cc L ret) B.pre
  have hts : ∀ w ∈ lw_all, w.before _ s = true := fun w h => hts w (List.mem_cons_of_mem _ h)
  have hown : s.vm.findClass RX3 = some m.cls := by rw [← hcls]; exact findClass_of_methodNamed B.named
  refine m_ent hn (fun ls hl => ?_)
  exact body p e s m _ below meth c ⟨⟨B.exec, B.bytes, hml, hown, hts⟩, hK, hG⟩ B.returns B.notSynchronized ls hX hl
def nC (p : Program) (m : MethodId) (c : Code) (s : State) (args : Array Value) (cc : ByteArray) (nL : Nat) (own : String) : Prop := CallFix p m c cc nL s args lw_all own
theorem n_met {l : Launch} {y : MethodName} {As : List Value} {ret : Option FieldType} {L : Nat} {rm : Room} {Qc : Array Value → State → Outcome → State → Prop} (cc : ByteArray) (own : String) (hy : plainName y.cls = true) (hcls : y.cls = own) (hn : (lg_sl As).length ≤ L)
    (body : ∀ (p : Program) (e : Env) (s : State) (m : MethodId) (args : Array Value) (below : List Frame) (meth : Method) (c : Code), nC p m c s args cc L own → meth.sig.returnType = ret → meth.locks = false → ∀ ls : Array Slot, lv_has ls L (lv_args 0 As) →
      W p l e rm s m args below meth c s.heap [] 0 0 (MQ below Qc args s 0 0 (fun _ => False)) (F0 m 0 ls [])) : Met l y (ws_ y cc L ret) rm (nPc As) Qc 0 0 (fun _ => False) := by
  refine Met.ofW (cc := cc) (maxL := L) (ret := ret) hy rfl ?_
  intro p e s m args below meth c s₁ B hml hv
  obtain ⟨rfl, -⟩ := hv
  have hts := atoms_spec (ws := ws_ y cc L ret) B.pre
  have hts : ∀ w ∈ lw_all, w.before _ s = true := fun w h => hts w (List.mem_cons_of_mem _ h)
  have hown : s.vm.findClass own = some m.cls := by rw [← hcls]; exact findClass_of_methodNamed B.named
  rw [lg_entry_eq]
  exact body p e s m _ below meth c ⟨B.exec, B.bytes, hml, hown, hts⟩ B.returns B.notSynchronized _ (lv_entry As hn)
theorem tb_out {x : Int32} {lo hi : Int} (h : ∀ k : Int, lo ≤ k → k ≤ hi → ¬ x = Int32.ofInt k) : x.toInt < lo ∨ hi < x.toInt := by
  rcases Int.lt_or_le x.toInt lo with a | a
  · exact Or.inl a
  · rcases Int.lt_or_le hi x.toInt with b | b
    · exact Or.inr b
    · exact absurd (Int32.ofInt_toInt x).symm (h _ a b)
section MRETW
variable {p : Program} {l : Launch} {e : Env} {R : Room} {s : State} {m : MethodId} {args : Array Value} {below : List Frame} {meth : Method} {c : Code} {H : Heap} {locs : List Loc} {Q : State → Prop} {G : mGh} {cc : ByteArray} {nL pc : Nat} {ls : Array Slot} {S S2 : mS}
theorem m_riw {v r : Int32} {C : mC p m c s args G cc nL} (hret : meth.sig.returnType = some .int) (hlk : meth.locks = false) (hX : mX G S H) (hS : va_S (zA G) s.heap H locs) (e1 : (S, v) = (S2, r)) (hdg : decode cc pc = .ok (.ireturn, 1)) : W p l e R s m args below meth c H locs 0 0 (MQ below (mQi G r S2) args s 0 0 (zA G)) (F0 m pc ls [.int v]) := by
  obtain ⟨rfl, e2⟩ := Prod.mk.inj e1
  exact m_ri (C := C) hret hlk hX hS e2 hdg
theorem m_rzw {v r : Int32} {C : mC p m c s args G cc nL} (hret : meth.sig.returnType = some .boolean) (hlk : meth.locks = false) (hX : mX G S H) (hS : va_S (zA G) s.heap H locs) (h01 : v = 0 ∨ v = 1) (e1 : (S, v) = (S2, r)) (hdg : decode cc pc = .ok (.ireturn, 1)) : W p l e R s m args below meth c H locs 0 0 (MQ below (mQi G r S2) args s 0 0 (zA G)) (F0 m pc ls [.int v]) := by
  obtain ⟨rfl, e2⟩ := Prod.mk.inj e1
  exact m_rz (C := C) hret hlk hX hS h01 e2 hdg
theorem m_rlw {v r : Int64} {C : mC p m c s args G cc nL} (hret : meth.sig.returnType = some .long) (hlk : meth.locks = false) (hX : mX G S H) (hS : va_S (zA G) s.heap H locs) (e1 : (S, v) = (S2, r)) (hdg : decode cc pc = .ok (.lreturn, 1)) : W p l e R s m args below meth c H locs 0 0 (MQ below (mQl G r S2) args s 0 0 (zA G)) (F0 m pc ls [.long v]) := by
  obtain ⟨rfl, e2⟩ := Prod.mk.inj e1
  exact m_rl (C := C) hret hlk hX hS e2 hdg
theorem m_rvw {C : mC p m c s args G cc nL} (hret : meth.sig.returnType = none) (hlk : meth.locks = false) (hX : mX G S H) (hS : va_S (zA G) s.heap H locs) (e1 : S = S2) (hdg : decode cc pc = .ok (.return_, 1)) : W p l e R s m args below meth c H locs 0 0 (MQ below (mQv G S2) args s 0 0 (zA G)) (F0 m pc ls []) := by
  subst e1
  exact m_rv (C := C) hret hlk hX hS hdg
end MRETW
