/-! THE SYSTEM'S WORLD (X: ValleyGuides): objects and arrays in pools, by ordinals. The pure state: how many there are of a pool, an object's tag (its class among the pool's), an array's length, ints (fields, elements), longs, floats, references (ordinals of the pool that the place says), lists' contents -/
abbrev xS : Type := (Nat → Nat) × (Nat → Nat → Nat) × (Nat → Nat → Nat) × (Nat → Nat → Nat → Int32) × (Nat → Nat → Nat → Int64) × (Nat → Nat → Nat → UInt32) × (Nat → Nat → Nat → Option Nat) × (Nat → Nat → List Nat)
def xN (S : xS) (p : Nat) : Nat := S.1 p
def xK (S : xS) (p o : Nat) : Nat := S.2.1 p o
def xL (S : xS) (p o : Nat) : Nat := S.2.2.1 p o
def xI (S : xS) (p o : Nat) : Nat → Int32 := S.2.2.2.1 p o
def xJ (S : xS) (p o : Nat) : Nat → Int64 := S.2.2.2.2.1 p o
def xF (S : xS) (p o : Nat) : Nat → UInt32 := S.2.2.2.2.2.1 p o
def xR (S : xS) (p o : Nat) : Nat → Option Nat := S.2.2.2.2.2.2.1 p o
def xT (S : xS) (p o : Nat) : List Nat := S.2.2.2.2.2.2.2 p o
/-- one place changed -/
def u2 {α : Type} (f : Nat → Nat → α) (p o : Nat) (v : α) : Nat → Nat → α := fun a b => if a = p ∧ b = o then v else f a b
theorem u2_s {α : Type} {f : Nat → Nat → α} {p o : Nat} {v : α} : u2 f p o v p o = v := by simp [u2]
theorem u2_n {α : Type} {f : Nat → Nat → α} {p o a b : Nat} {v : α} (h : ¬ (a = p ∧ b = o)) : u2 f p o v a b = f a b := by simp [u2, h]
def wI (S : xS) (p o k : Nat) (v : Int32) : xS := (S.1, S.2.1, S.2.2.1, u2 S.2.2.2.1 p o (upd (xI S p o) k v), S.2.2.2.2)
def wJ (S : xS) (p o k : Nat) (v : Int64) : xS := (S.1, S.2.1, S.2.2.1, S.2.2.2.1, u2 S.2.2.2.2.1 p o (va_up (xJ S p o) k v), S.2.2.2.2.2)
def wF (S : xS) (p o k : Nat) (v : UInt32) : xS := (S.1, S.2.1, S.2.2.1, S.2.2.2.1, S.2.2.2.2.1, u2 S.2.2.2.2.2.1 p o (va_up (xF S p o) k v), S.2.2.2.2.2.2)
def wR (S : xS) (p o k : Nat) (v : Option Nat) : xS := (S.1, S.2.1, S.2.2.1, S.2.2.2.1, S.2.2.2.2.1, S.2.2.2.2.2.1, u2 S.2.2.2.2.2.2.1 p o (va_up (xR S p o) k v), S.2.2.2.2.2.2.2)
def wT (S : xS) (p o : Nat) (v : List Nat) : xS := (S.1, S.2.1, S.2.2.1, S.2.2.2.1, S.2.2.2.2.1, S.2.2.2.2.2.1, S.2.2.2.2.2.2.1, u2 S.2.2.2.2.2.2.2 p o v)
/-! the tables of pools: kinds 1 object, 2 int[], 3 boolean[], 4 byte[], 5 short[], 6 float[], 7 long[], 8 references, 9 list, 10 a sheet's row (float, short, byte by its tag); how many there are (0: the state says it); lengths (0: the state says it); elements' pools, and whether element j is the object j for good; the arrays' types by their places in xtys; the objects' classes by their tags; the classes' fields: 0 int, 1 long, 2 a reference of the state to that pool, 3 for good the object 0 (mode 0) or its own ordinal's (mode 1) of that pool -/
def xkdT : List Nat := [1, 1, 1, 9, 1, 1, 2, 1, 10, 9, 9, 1, 1, 1, 4, 8, 7, 1, 2, 2, 2, 0, 8, 0, 8, 0, 8, 8, 2, 2, 2, 3, 4, 0, 0, 0, 0, 2, 8, 0, 0, 0, 8, 2, 8, 0, 2, 8, 0, 2, 2, 2, 2, 2, 2, 0, 2, 2, 0, 0, 2, 3, 2, 2]
def xcntT : List Nat := [1, 0, 0, 0, 0, 0, 0, 4, 0, 1, 0, 0, 0, 0, 0, 0, 0, 1, 24, 9, 1, 0, 1, 0, 1, 0, 1, 1, 1, 1, 1, 1, 1, 0, 0, 0, 0, 1, 1, 0, 0, 0, 1, 1, 1, 0, 1, 1, 0, 1, 1, 1, 1, 1, 1, 0, 1, 1, 0, 0, 1, 1, 1, 1]
def xlenT : List Nat := [0, 0, 0, 0, 0, 0, 96, 0, 0, 0, 0, 0, 0, 0, 0, 0, 0, 0, 3, 9, 12, 0, 20, 0, 6, 0, 4, 24, 3, 3, 12, 12, 240, 0, 0, 0, 0, 9, 8, 0, 0, 0, 8, 9, 9, 0, 512, 8, 0, 12, 12, 12, 14, 14, 14, 0, 14, 14, 0, 0, 8, 8, 8, 8]
def xecT : List Nat := [0, 0, 0, 0, 0, 0, 0, 0, 0, 0, 0, 0, 0, 0, 0, 0, 0, 0, 0, 0, 0, 0, 0, 0, 0, 0, 1, 1, 0, 0, 0, 0, 0, 0, 0, 0, 0, 0, 0, 0, 0, 0, 0, 0, 1, 0, 0, 0, 0, 0, 0, 0, 0, 0, 0, 0, 0, 0, 0, 0, 0, 0, 0, 0]
def xepT : List Nat := [0, 0, 0, 1, 0, 0, 0, 0, 0, 4, 11, 0, 0, 0, 0, 16, 0, 0, 0, 0, 0, 0, 1, 0, 2, 0, 7, 18, 0, 0, 0, 0, 0, 0, 0, 0, 0, 0, 4, 0, 0, 0, 4, 0, 19, 0, 0, 5, 0, 0, 0, 0, 0, 0, 0, 0, 0, 0, 0, 0, 0, 0, 0, 0]
def xtyT : List Nat := [0, 0, 0, 13, 0, 0, 0, 0, 0, 13, 13, 0, 0, 0, 3, 12, 2, 0, 0, 0, 0, 0, 6, 0, 7, 0, 8, 11, 0, 0, 0, 1, 3, 0, 0, 0, 0, 0, 9, 0, 0, 0, 9, 0, 11, 0, 0, 10, 0, 0, 0, 0, 0, 0, 0, 0, 0, 0, 0, 0, 0, 1, 0, 0]
def xclT : List (List Nat) := [[0], [5, 6, 7, 8, 9], [10], [], [11], [24], [], [1], [], [], [], [14], [16, 17, 19, 20, 21, 22, 23], [12], [], [], [], [2], [], [], [], [], [], [], [], [], [], [], [], [], [], [], [], [], [], [], [], [], [], [], [], [], [], [], [], [], [], [], [], [], [], [], [], [], [], [], [], [], [], [], [], [], [], []]
def xfkT : List (List (Nat × Nat × Nat)) := [[(3, 20, 0), (0, 0, 0), (3, 22, 0), (0, 0, 0), (3, 24, 0), (0, 0, 0), (3, 26, 0), (3, 27, 0), (3, 28, 0), (3, 29, 0), (3, 30, 0), (3, 31, 0), (3, 32, 0), (0, 0, 0), (0, 0, 0), (2, 10, 0), (0, 0, 0), (3, 37, 0), (3, 38, 0), (0, 0, 0), (3, 9, 0), (0, 0, 0), (3, 42, 0), (3, 43, 0), (3, 44, 0), (0, 0, 0), (3, 46, 0), (3, 47, 0), (0, 0, 0), (3, 49, 0), (3, 50, 0), (3, 51, 0), (3, 52, 0), (3, 53, 0), (3, 54, 0), (0, 0, 0), (3, 56, 0), (3, 57, 0), (2, 15, 0), (1, 0, 0), (3, 17, 0), (0, 0, 0)], [(2, 8, 0)], [(3, 60, 0), (3, 61, 0), (3, 62, 0), (3, 63, 0), (0, 0, 0), (0, 0, 0), (0, 0, 0)], [], [], [(0, 0, 0), (0, 0, 0), (0, 0, 0), (0, 0, 0), (0, 0, 0)], [(0, 0, 0), (0, 0, 0), (0, 0, 0), (0, 0, 0), (0, 0, 0)], [(0, 0, 0), (0, 0, 0), (0, 0, 0), (0, 0, 0), (0, 0, 0)], [(0, 0, 0), (0, 0, 0), (0, 0, 0), (0, 0, 0), (0, 0, 0)], [(0, 0, 0), (0, 0, 0), (0, 0, 0), (0, 0, 0), (0, 0, 0)], [(2, 3, 0)], [(0, 0, 0), (0, 0, 0), (0, 0, 0), (0, 0, 0), (0, 0, 0), (0, 0, 0), (0, 0, 0)], [(2, 14, 0), (0, 0, 0), (0, 0, 0), (0, 0, 0), (0, 0, 0), (0, 0, 0)], [], [(0, 0, 0), (2, 12, 0)], [], [(0, 0, 0)], [(0, 0, 0)], [], [(2, 12, 0), (2, 12, 0), (0, 0, 0)], [(2, 12, 0), (2, 12, 0), (0, 0, 0)], [(2, 12, 0)], [(2, 12, 0), (2, 12, 0)], [(2, 12, 0), (2, 12, 0)], [(2, 2, 0), (0, 0, 0), (0, 0, 0), (0, 0, 0), (0, 0, 0), (0, 0, 0), (0, 0, 0), (2, 1, 0), (0, 0, 0), (0, 0, 0), (0, 0, 0), (0, 0, 0), (0, 0, 0), (2, 6, 0)], []]
def xtys : List FieldType := [.int, .boolean, .long, .byte, .short, .float, (.object "ValleyGuides$Step"), (.object "ValleyGuides$Route"), (.object "ValleyGuides$Sheet"), (.object "ValleyGuides$Guide"), (.object "ValleyGuides$Rope"), (.array .int), (.array .long), (.object "java/lang/Object")]
def xCl : List vw_C := [(RX0, TX0, 42), (RX1, TX1, 1), (RX2, TX2, 7), (RX3, TX3, 90), (RX5, TX5, 5), (RX5, TX5, 5), (RX6, TX6, 5), (RX7, TX7, 5), (RX8, TX8, 5), (RX9, TX9, 5), (RX10, TX10, 1), (RX11, TX11, 7), (RX12, TX12, 6), (RX13, TX13, 8), (RX14, TX14, 2), (RX5, TX5, 5), (RX16, TX16, 1), (RX17, TX17, 1), (RX5, TX5, 5), (RX19, TX19, 3), (RX20, TX20, 3), (RX21, TX21, 1), (RX22, TX22, 2), (RX23, TX23, 2), (RX24, TX24, 14), (RJ2, TJ2, 3)]
def xkd (p : Nat) : Nat := xkdT.getD p 0
def xcap (S : xS) (p : Nat) : Nat := if xcntT.getD p 0 = 0 then xN S p else xcntT.getD p 0
def xlen (S : xS) (p o : Nat) : Nat := if xlenT.getD p 0 = 0 then xL S p o else xlenT.getD p 0
def xep (p : Nat) : Nat := xepT.getD p 0
def xcl (S : xS) (p o : Nat) : Nat := (xclT.getD p []).getD (xK S p o) ((xclT.getD p []).getD 0 0)
def xfk (c k : Nat) : Nat × Nat × Nat := (xfkT.getD c []).getD k (0, 0, 0)
/-- an array's kind and its type's place -/
def xak (S : xS) (p o : Nat) : Nat := if xkd p = 10 then (if xK S p o = 0 then 6 else if xK S p o = 1 then 5 else 4) else xkd p
def xat (S : xS) (p o : Nat) : Nat := if xkd p = 10 then (if xK S p o = 0 then 5 else if xK S p o = 1 then 4 else 3) else xtyT.getD p 0
/-! the ghosts that stay: class ids and fields' slots, array classes' ids by their places in xtys, the empty array of a new list, the cells that may change. Those that move: addresses (100 + p: a list's own array), lists' room (0: the empty array), their counts of changes, what stands behind their ends -/
abbrev xGh : Type := va_G × (Nat → ClassId) × Nat × (Nat → Prop)
abbrev xMv : Type := (Nat → Nat → Nat) × (Nat → Nat → Nat) × (Nat → Nat → Int32) × (Nat → Nat → Nat → Option Nat) × (Nat → Nat)
abbrev yD (Γ : xGh) : va_G := Γ.1
abbrev yk (Γ : xGh) : Nat → ClassId := Γ.2.1
abbrev ye (Γ : xGh) : Nat := Γ.2.2.1
abbrev yA (Γ : xGh) : Nat → Prop := Γ.2.2.2
abbrev ad (γ : xMv) : Nat → Nat → Nat := γ.1
abbrev cp (γ : xMv) : Nat → Nat → Nat := γ.2.1
abbrev mdc (γ : xMv) : Nat → Nat → Int32 := γ.2.2.1
abbrev gb (γ : xMv) : Nat → Nat → Nat → Option Nat := γ.2.2.2.1
abbrev cn (γ : xMv) : Nat → Nat := γ.2.2.2.2
def xtl (Γ : xGh) : List (ClassId × FieldType) := (List.range 14).map (fun t => (yk Γ t, xtys.getD t .int))
def xfv (γ : xMv) (S : xS) (c p o k : Nat) : Value := if (xfk c k).1 = 0 then .int (xI S p o k) else if (xfk c k).1 = 1 then .long (xJ S p o k) else if (xfk c k).1 = 2 then va_rf ((xR S p o k).map (ad γ (xfk c k).2.1)) else .ref (ad γ (xfk c k).2.1 (if (xfk c k).2.2 = 0 then 0 else o))
def xnf (c : Nat) : Nat := ((xCl[c]?).map (fun q => q.2.2)).getD 0
def xfs (γ : xMv) (S : xS) (c p o : Nat) : List Value := (List.range (xnf c)).map (xfv γ S c p o)
def xel (γ : xMv) (S : xS) (p o : Nat) : Nat → Option Nat := if xecT.getD p 0 = 1 then (fun j => some (ad γ (xep p) j)) else fun j => (xR S p o j).map (ad γ (xep p))
def xdt (γ : xMv) (S : xS) (p o : Nat) : Nat → Option Nat := fun j => match (xT S p o)[j]? with
  | some x => some (ad γ (xep p) x)
  | none => gb γ p o j
/-- what lies at a place -/
def xce (Γ : xGh) (γ : xMv) (S : xS) (r : Nat × Nat) : va_E :=
  if 100 ≤ r.1 then .inl (yk Γ 13, cp γ (r.1 - 100) r.2, .inr (.inr (.inr (.inr (xdt γ S (r.1 - 100) r.2)))))
  else if xkd r.1 = 9 then .inr (25, [.int (mdc γ r.1 r.2), if cp γ r.1 r.2 = 0 then .ref (ye Γ) else .ref (ad γ (100 + r.1) r.2), .int (nI (xT S r.1 r.2).length)])
  else if xkd r.1 = 1 then .inr (xcl S r.1 r.2, xfs γ S (xcl S r.1 r.2) r.1 r.2)
  else .inl (yk Γ (xat S r.1 r.2), xlen S r.1 r.2, if xak S r.1 r.2 = 6 then .inr (.inr (.inl (xF S r.1 r.2))) else if xak S r.1 r.2 = 7 then .inr (.inl (xJ S r.1 r.2)) else if xak S r.1 r.2 = 8 then .inr (.inr (.inr (.inr (xel γ S r.1 r.2)))) else .inl (xI S r.1 r.2))
/-- the places that are used -/
def xlv (γ : xMv) (S : xS) (r : Nat × Nat) : Prop := if 100 ≤ r.1 then r.1 < 164 ∧ xkd (r.1 - 100) = 9 ∧ r.2 < xcap S (r.1 - 100) ∧ 0 < cp γ (r.1 - 100) r.2 else r.1 < 64 ∧ xkd r.1 ≠ 0 ∧ r.2 < xcap S r.1
def xlv_d (γ : xMv) (S : xS) (r : Nat × Nat) : Decidable (xlv γ S r) := by unfold xlv; exact inferInstance
def xro (γ : xMv) (S : xS) : List (Nat × Nat) := ((List.range 164).flatMap (fun p => (List.range (xcap S (p % 100))).map (fun o => (p, o)))).filter (fun r => @decide (xlv γ S r) (xlv_d γ S r))
/-- a tag is one of its pool's -/
def xtg (S : xS) : Prop := ∀ p o, xkd p = 1 → o < xcap S p → xK S p o < (xclT.getD p []).length
/-- references lead to objects -/
def xcd (S : xS) : Prop := (∀ p o k v, xkd p = 1 → o < xcap S p → (xfk (xcl S p o) k).1 = 2 → xR S p o k = some v → v < xcap S (xfk (xcl S p o) k).2.1) ∧ (∀ p o k v, xkd p = 8 → o < xcap S p → xecT.getD p 0 ≠ 1 → xR S p o k = some v → v < xcap S (xep p)) ∧ (∀ p o x, xkd p = 9 → o < xcap S p → x ∈ xT S p o → x < xcap S (xep p))
theorem xcd_eq {S S' : xS} (h1 : S'.1 = S.1) (h2 : S'.2.1 = S.2.1) (h3 : xR S' = xR S) (h4 : xT S' = xT S) (h : xcd S) : xcd S' := by
  have hcap : ∀ a, xcap S' a = xcap S a := fun a => by unfold xcap xN; rw [h1]
  have hcl : ∀ a b, xcl S' a b = xcl S a b := fun a b => by unfold xcl xK; rw [h2]
  refine ⟨fun p o k v a b c d => ?_, fun p o k v a b c d => ?_, fun p o x a b c => ?_⟩
  · rw [hcl] at c ⊢; rw [hcap] at b ⊢; rw [h3] at d; exact h.1 p o k v a b c d
  · rw [hcap] at b ⊢; rw [h3] at d; exact h.2.1 p o k v a b c d
  · rw [hcap] at b ⊢; rw [h4] at c; exact h.2.2 p o x a b c
def xX (Γ : xGh) (γ : xMv) (S : xS) (H : Heap) : Prop := (∀ r, xlv γ S r → va_at (yD Γ) xCl (ad γ r.1 r.2, xce Γ γ S r) H) ∧ (∀ r r', xlv γ S r → xlv γ S r' → ad γ r.1 r.2 = ad γ r'.1 r'.2 → r = r') ∧ ((∀ r, xlv γ S r → yA Γ (ad γ r.1 r.2)) ∧ ∀ p, xN S p = cn γ p) ∧ (∀ p o, xkd p = 9 → (xT S p o).length ≤ cp γ p o) ∧ xtg S ∧ xcd S
theorem xro_m {γ : xMv} {S : xS} {r : Nat × Nat} : r ∈ xro γ S ↔ xlv γ S r := by
  unfold xro
  rw [List.mem_filter]
  constructor
  · intro h
    exact @of_decide_eq_true _ (xlv_d γ S r) h.2
  · intro h
    refine ⟨?_, @decide_eq_true _ (xlv_d γ S r) h⟩
    rw [List.mem_flatMap]
    unfold xlv at h
    by_cases h1 : 100 ≤ r.1
    · rw [if_pos h1] at h
      have e : r.1 % 100 = r.1 - 100 := by omega
      exact ⟨r.1, List.mem_range.mpr h.1, List.mem_map.mpr ⟨r.2, List.mem_range.mpr (by rw [e]; exact h.2.2.1), rfl⟩⟩
    · rw [if_neg h1] at h
      have e : r.1 % 100 = r.1 := by omega
      exact ⟨r.1, List.mem_range.mpr (by omega), List.mem_map.mpr ⟨r.2, List.mem_range.mpr (by rw [e]; exact h.2.2), rfl⟩⟩
theorem nd_flat {α β : Type} (f : α → List β) (key : β → α) : ∀ (l : List α), l.Nodup → (∀ a ∈ l, (f a).Nodup) → (∀ a b, b ∈ f a → key b = a) → (l.flatMap f).Nodup := by
  intro l
  induction l with
  | nil => intro _ _ _; simp
  | cons a t ih =>
    intro hn hf hk
    rw [List.flatMap_cons, List.nodup_append]
    have hn2 := List.nodup_cons.mp hn
    refine ⟨hf a List.mem_cons_self, ih hn2.2 (fun b hb => hf b (List.mem_cons_of_mem _ hb)) hk, fun x hx y hy e => ?_⟩
    subst e
    obtain ⟨b, hb, hb2⟩ := List.mem_flatMap.mp hy
    have e1 := hk a x hx
    have e2 := hk b x hb2
    rw [e1] at e2
    exact hn2.1 (e2 ▸ hb)
theorem xro_nd {γ : xMv} {S : xS} : (xro γ S).Nodup := by
  unfold xro
  refine List.Pairwise.filter _ (nd_flat _ (fun r => r.1) _ List.nodup_range (fun p _ => ?_) (fun p r h => ?_))
  · refine List.Pairwise.map _ (fun a b h e => h (Prod.mk.inj e).2) List.nodup_range
  · obtain ⟨o, -, e⟩ := List.mem_map.mp h
    rw [← e]
/-- the world as a list of cells -/
def xws (Γ : xGh) (γ : xMv) (S : xS) : va_W := (xro γ S).map (fun r => (ad γ r.1 r.2, xce Γ γ S r))
theorem xX.list {Γ : xGh} {γ : xMv} {S : xS} {H : Heap} (h : xX Γ γ S H) : va_P (yD Γ) xCl (xws Γ γ S) H ∧ va_D (yA Γ) (xws Γ γ S) := by
  refine ⟨fun k q hk => ?_, fun i j p q hi hj e => ?_, fun k q hk => ?_⟩
  · obtain ⟨r, hr, rfl⟩ := List.mem_map.mp (List.mem_of_getElem? hk)
    exact h.1 r (xro_m.mp hr)
  · unfold xws at hi hj
    rw [List.getElem?_map] at hi hj
    cases h1 : (xro γ S)[i]? with
    | none => rw [h1] at hi; cases hi
    | some a =>
      cases h2 : (xro γ S)[j]? with
      | none => rw [h2] at hj; cases hj
      | some b =>
        rw [h1] at hi; rw [h2] at hj
        cases hi; cases hj
        have hab := h.2.1 a b (xro_m.mp (List.mem_of_getElem? h1)) (xro_m.mp (List.mem_of_getElem? h2)) e
        exact (List.getElem?_inj (List.getElem?_eq_some_iff.mp h1).1 xro_nd).mp (by rw [h1, h2, hab])
  · obtain ⟨r, hr, rfl⟩ := List.mem_map.mp (List.mem_of_getElem? hk)
    exact h.2.2.1.1 r (xro_m.mp hr)
theorem xws_at {Γ : xGh} {γ : xMv} {S : xS} {r : Nat × Nat} (h : xlv γ S r) : ∃ j : Nat, (xro γ S)[j]? = some r ∧ (xws Γ γ S)[j]? = some (ad γ r.1 r.2, xce Γ γ S r) := by
  obtain ⟨j, hj⟩ := List.getElem?_of_mem (xro_m.mpr h)
  exact ⟨j, hj, by unfold xws; rw [List.getElem?_map, hj]; rfl⟩
/-- a cell is changed in its place -/
theorem xX.back {Γ : xGh} {γ γ' : xMv} {S S' : xS} {H H1 : Heap} {r : Nat × Nat} {j : Nat} {e' : va_E} (h : xX Γ γ S H) (hr : xlv γ S r) (hj : (xro γ S)[j]? = some r) (hP : va_P (yD Γ) xCl ((xws Γ γ S).set j (ad γ r.1 r.2, e')) H1)
    (hlv : ∀ r', xlv γ' S' r' ↔ xlv γ S r') (had : ad γ' = ad γ) (he : xce Γ γ' S' r = e') (ho : ∀ r', xlv γ S r' → r' ≠ r → xce Γ γ' S' r' = xce Γ γ S r') (hT : ∀ p o, xkd p = 9 → (xT S' p o).length ≤ cp γ' p o) (htg : xtg S') (hcd : xcd S') (hcn : ∀ p, xN S' p = xN S p := by intro; rfl) (hcg : cn γ' = cn γ := by rfl) : xX Γ γ' S' H1 := by
  refine ⟨fun r' h' => ?_, fun a b ha hb e => ?_, ⟨fun r' h' => ?_, fun p => by rw [hcn, hcg]; exact h.2.2.1.2 p⟩, hT, htg, hcd⟩
  · have hl := (hlv r').mp h'
    obtain ⟨j', hj', hw'⟩ := xws_at (Γ := Γ) hl
    by_cases e : r' = r
    · subst e
      have : j' = j := (List.getElem?_inj (List.getElem?_eq_some_iff.mp hj').1 xro_nd).mp (by rw [hj', hj])
      subst this
      rw [had, he]
      refine hP j' _ ?_
      rw [List.getElem?_set, if_pos rfl, if_pos (List.getElem?_eq_some_iff.mp hw').1]
    · rw [had, ho r' hl e]
      refine hP j' _ ?_
      have hne : j ≠ j' := fun q => e (by subst q; rw [hj] at hj'; exact (Option.some.inj hj').symm)
      rw [List.getElem?_set, if_neg hne]
      exact hw'
  · rw [had] at e
    exact h.2.1 a b ((hlv a).mp ha) ((hlv b).mp hb) e
  · rw [had]
    exact h.2.2.1.1 r' ((hlv r').mp h')
/-! what a call takes along of the tables and of the JDK's statics -/
def xnk : Cond → Bool
  | .fieldLinkNest _ _ _ _ _ _ => true
  | .methodLinkNest _ _ _ _ => true
  | .castable _ _ => true
  | .declares _ => true
  | _ => false
def xNw (U : State) : Prop := ∀ w ∈ lw_tbl, xnk w = true → va_Nw w U
theorem xNw.warm {s U : State} (hW : s.WarmedH U.vm) (h : xNw s) : xNw U := by
  intro w hw hk
  have h1 := h w hw hk
  cases w <;> first | exact va_Nw.warmF hW h1 | exact va_Nw.warmM hW h1 | exact va_Nw.warmC hW h1 | exact va_Nw.warmD hW h1 | cases hk
def xLm : List (String × String) := [("add", "(Ljava/lang/Object;)Z"), ("size", "()I"), ("get", "(I)Ljava/lang/Object;"), ("indexOf", "(Ljava/lang/Object;)I"), ("remove", "(Ljava/lang/Object;)Z"), ("clear", "()V")]
def xLw (U : State) : Prop := ∀ q ∈ xLm, va_Fw "java/util/ArrayList" ⟨"java/util/List", q.1, q.2⟩ ⟨"java/util/ArrayList", q.1, q.2⟩ U
theorem xLw.moved {s U : State} (hvm : s.vm.Alike U.vm) (h : xLw s) : xLw U := fun q hq => va_Fw.moved ⟨by show "java/util/List" ≠ _; decide, by show "java/util/List" ≠ _; decide⟩ hvm (h q hq)
/-- the JDK's statics that are read, and the empty array of a new list -/
def xZs (Γ : xGh) (U : State) (H : Heap) : Prop := va_Z "java/util/ArrayList" "DEFAULTCAPACITY_EMPTY_ELEMENTDATA" "[Ljava/lang/Object;" (.ref (ye Γ)) (yA Γ) U H ∧ (H[ye Γ]? = some (vp_cell (yk Γ 13) (0, .inr (.inr (.inr (.inr (fun _ => none)))))) ∧ ¬ yA Γ (ye Γ)) ∧
  va_Z "java/lang/Math" "negativeZeroFloatBits" "J" (.long (-2147483648)) (yA Γ) U H ∧ va_Z "java/lang/String" "COMPACT_STRINGS" "Z" (.int 1) (yA Γ) U H
theorem xZs.moved {Γ : xGh} {s U : State} {H : Heap} (hvm : s.vm.Alike U.vm) (h : xZs Γ s H) : xZs Γ U H := ⟨h.1.moved hvm, h.2.1, h.2.2.1.moved hvm, h.2.2.2.moved hvm⟩
theorem xZs.kept {Γ : xGh} {U : State} {H H1 : Heap} (h : xZs Γ U H) (hq : ∀ a : Nat, a < H.size → ¬ yA Γ a → H1[a]? = H[a]?) : xZs Γ U H1 := by
  refine ⟨h.1.kept hq, ⟨?_, h.2.1.2⟩, h.2.2.1.kept hq, h.2.2.2.kept hq⟩
  rw [hq _ (Array.getElem?_eq_some_iff.mp h.2.1.1).1 h.2.1.2]
  exact h.2.1.1
def xSt (Γ : xGh) (U : State) : Prop := xNw U ∧ xLw U ∧ xZs Γ U U.heap
theorem xSt.step {Γ : xGh} {s U : State} {H : Heap} {locs : List Loc} (h : xSt Γ s) (hW : s.WarmedH U.vm) (hS : va_S (yA Γ) s.heap H locs) (hU : U.heap = H) : xSt Γ U :=
  ⟨h.1.warm hW, h.2.1.moved hW.alike, by rw [hU]; exact (h.2.2.moved hW.alike).kept hS.2.1⟩
/-! X's rows: one for each kind of instruction that touches its world -/
theorem xI_wI {S : xS} {p o k a b : Nat} {v : Int32} : xI (wI S p o k v) a b = if a = p ∧ b = o then upd (xI S p o) k v else xI S a b := rfl
theorem xJ_wJ {S : xS} {p o k a b : Nat} {v : Int64} : xJ (wJ S p o k v) a b = if a = p ∧ b = o then va_up (xJ S p o) k v else xJ S a b := rfl
theorem xF_wF {S : xS} {p o k a b : Nat} {v : UInt32} : xF (wF S p o k v) a b = if a = p ∧ b = o then va_up (xF S p o) k v else xF S a b := rfl
theorem xR_wR {S : xS} {p o k a b : Nat} {v : Option Nat} : xR (wR S p o k v) a b = if a = p ∧ b = o then va_up (xR S p o) k v else xR S a b := rfl
theorem xT_wT {S : xS} {p o a b : Nat} {v : List Nat} : xT (wT S p o v) a b = if a = p ∧ b = o then v else xT S a b := rfl
theorem xI_wS {S : xS} {p o k : Nat} {v : Int32} : xI (wI S p o k v) p o = upd (xI S p o) k v := by rw [xI_wI, if_pos ⟨rfl, rfl⟩]
theorem xJ_wS {S : xS} {p o k : Nat} {v : Int64} : xJ (wJ S p o k v) p o = va_up (xJ S p o) k v := by rw [xJ_wJ, if_pos ⟨rfl, rfl⟩]
theorem xF_wS {S : xS} {p o k : Nat} {v : UInt32} : xF (wF S p o k v) p o = va_up (xF S p o) k v := by rw [xF_wF, if_pos ⟨rfl, rfl⟩]
theorem xR_wS {S : xS} {p o k : Nat} {v : Option Nat} : xR (wR S p o k v) p o = va_up (xR S p o) k v := by rw [xR_wR, if_pos ⟨rfl, rfl⟩]
theorem xce_eq {Γ : xGh} {γ : xMv} {S S' : xS} {r : Nat × Nat} (hK : xK S' r.1 r.2 = xK S r.1 r.2) (hL : xL S' r.1 r.2 = xL S r.1 r.2) (hI : xI S' r.1 r.2 = xI S r.1 r.2) (hJ : xJ S' r.1 r.2 = xJ S r.1 r.2) (hF : xF S' r.1 r.2 = xF S r.1 r.2) (hR : xR S' r.1 r.2 = xR S r.1 r.2) (hT : xT S' r.1 r.2 = xT S r.1 r.2) (hT2 : 100 ≤ r.1 → xT S' (r.1 - 100) r.2 = xT S (r.1 - 100) r.2) : xce Γ γ S' r = xce Γ γ S r := by
  unfold xce
  by_cases h : 100 ≤ r.1
  · rw [if_pos h, if_pos h]
    have e : xdt γ S' (r.1 - 100) r.2 = xdt γ S (r.1 - 100) r.2 := by unfold xdt; rw [hT2 h]
    rw [e]
  · rw [if_neg h, if_neg h]
    have e1 : xfv γ S' (xcl S r.1 r.2) r.1 r.2 = xfv γ S (xcl S r.1 r.2) r.1 r.2 := by funext k; unfold xfv; rw [hI, hJ, hR]
    have e2 : xcl S' r.1 r.2 = xcl S r.1 r.2 := by unfold xcl; rw [hK]
    have e3 : xat S' r.1 r.2 = xat S r.1 r.2 := by unfold xat; rw [hK]
    have e4 : xak S' r.1 r.2 = xak S r.1 r.2 := by unfold xak; rw [hK]
    have e5 : xlen S' r.1 r.2 = xlen S r.1 r.2 := by unfold xlen; rw [hL]
    have e6 : xel γ S' r.1 r.2 = xel γ S r.1 r.2 := by unfold xel; rw [hR]
    rw [e2]
    unfold xfs
    rw [e1, e3, e4, e5, e6, hT, hI, hJ, hF]
theorem xce_obj {Γ : xGh} {γ : xMv} {S : xS} {p o : Nat} (hp : p < 64) (hk : xkd p = 1) : xce Γ γ S (p, o) = .inr (xcl S p o, xfs γ S (xcl S p o) p o) := by
  unfold xce
  rw [if_neg (by show ¬ 100 ≤ p; omega), if_neg (by show ¬ xkd p = 9; omega), if_pos hk]
theorem xce_arr {Γ : xGh} {γ : xMv} {S : xS} {p o : Nat} (hp : p < 64) (hk : xkd p ≠ 1) (hk9 : xkd p ≠ 9) : xce Γ γ S (p, o) = .inl (yk Γ (xat S p o), xlen S p o, if xak S p o = 6 then .inr (.inr (.inl (xF S p o))) else if xak S p o = 7 then .inr (.inl (xJ S p o)) else if xak S p o = 8 then .inr (.inr (.inr (.inr (xel γ S p o)))) else .inl (xI S p o)) := by
  unfold xce
  rw [if_neg (by show ¬ 100 ≤ p; omega), if_neg (by show ¬ xkd p = 9; omega), if_neg (by show ¬ xkd p = 1; omega)]
theorem xlv_of {γ : xMv} {S : xS} {p o : Nat} (hp : p < 64) (hk : xkd p ≠ 0) (ho : o < xcap S p) : xlv γ S (p, o) := by
  unfold xlv
  rw [if_neg (by show ¬ 100 ≤ p; omega)]
  exact ⟨hp, hk, ho⟩
theorem xtl_at {Γ : xGh} {t : Nat} (h : t < 14) : (xtl Γ)[t]? = some (yk Γ t, xtys.getD t .int) := by
  unfold xtl
  rw [List.getElem?_map, List.getElem?_range h]
  rfl
theorem xnf_of {c : Nat} {q : vw_C} (h : xCl[c]? = some q) : xnf c = q.2.2 := by unfold xnf; rw [h]; rfl
theorem xfs_at {γ : xMv} {S : xS} {c p o k : Nat} {q : vw_C} (h : xCl[c]? = some q) (hk : k < q.2.2) : (xfs γ S c p o)[k]? = some (xfv γ S c p o k) := by
  unfold xfs
  rw [xnf_of h, List.getElem?_map, List.getElem?_range hk]
  rfl
theorem xfs_set {γ : xMv} {S S' : xS} {c p o k : Nat} {q : vw_C} {v : Value} (h : xCl[c]? = some q) (hk : k < q.2.2) (h1 : xfv γ S' c p o k = v) (h2 : ∀ j, j ≠ k → xfv γ S' c p o j = xfv γ S c p o j) : (xfs γ S c p o).set k v = xfs γ S' c p o := by
  subst h1
  unfold xfs
  rw [xnf_of h]
  exact mapset List.nodup_range (List.getElem?_range hk) h2
def xC (p : Program) (m : MethodId) (c : Code) (s : State) (args : Array Value) (Γ : xGh) (cc : ByteArray) (nL : Nat) (own : String) : Prop := CallFix p m c cc nL s args lw_all own ∧ va_K (yD Γ) xCl (xtl Γ) s ∧ (∀ q, s.heap.size ≤ q → yA Γ q)
def xC2 (p : Program) (m : MethodId) (c : Code) (s : State) (args : Array Value) (Γ : xGh) (cc : ByteArray) (nL : Nat) (own : String) : Prop := xC p m c s args Γ cc nL own ∧ xSt Γ s
/-- a field's link: of its own, or of a nest mate -/
def xLk (own : String) (idx : Nat) (ref n d : String) : Prop := Cond.fieldLink own idx ref n d ∈ lw_all ∨ ∃ h, Cond.fieldLinkNest own idx ref n d h ∈ lw_tbl
theorem xlk {own : String} {idx : Nat} {ref n d : String} (h : Cond.fieldLink own idx ref n d ∈ lw_all) : xLk own idx ref n d := Or.inl h
theorem xlkN {own : String} {idx : Nat} {ref n d h : String} (q : Cond.fieldLinkNest own idx ref n d h ∈ lw_tbl) : xLk own idx ref n d := Or.inr ⟨h, q⟩
/-- a reference as it lies on the stack -/
abbrev xv (γ : xMv) (p : Nat) (r : Option Nat) : Value := va_rf (r.map (ad γ p))
/-! what can't go on is none -/
def xgi (S : xS) (p : Nat) (r : Option Nat) (k : Nat) : Option Int32 := r.bind fun o => if o < xcap S p then some (xI S p o k) else none
def xgj (S : xS) (p : Nat) (r : Option Nat) (k : Nat) : Option Int64 := r.bind fun o => if o < xcap S p then some (xJ S p o k) else none
def xgr (S : xS) (p : Nat) (r : Option Nat) (k : Nat) : Option (Option Nat) := r.bind fun o => if o < xcap S p then some (xR S p o k) else none
def xgc (S : xS) (p : Nat) (r : Option Nat) : Option Nat := r.bind fun o => if o < xcap S p then some o else none
def xpi (S : xS) (p : Nat) (r : Option Nat) (k : Nat) (v : Int32) : Option xS := r.bind fun o => if o < xcap S p then some (wI S p o k v) else none
def xpz (S : xS) (p : Nat) (r : Option Nat) (k : Nat) (v : Int32) : Option xS := r.bind fun o => if o < xcap S p ∧ (v = 0 ∨ v = 1) then some (wI S p o k v) else none
def xpj (S : xS) (p : Nat) (r : Option Nat) (k : Nat) (v : Int64) : Option xS := r.bind fun o => if o < xcap S p then some (wJ S p o k v) else none
def xpr (S : xS) (p : Nat) (r : Option Nat) (k p2 : Nat) (v : Option Nat) : Option xS := r.bind fun o => if o < xcap S p ∧ (v.all fun x => decide (x < xcap S p2)) = true then some (wR S p o k v) else none
def xai (S : xS) (p : Nat) (r : Option Nat) (i : Int32) : Option Int32 := r.bind fun o => if o < xcap S p ∧ ¬ (i < 0 ∨ xlen S p o ≤ i.toNatClampNeg) then some (xI S p o i.toNatClampNeg) else none
def xaj (S : xS) (p : Nat) (r : Option Nat) (i : Int32) : Option Int64 := r.bind fun o => if o < xcap S p ∧ ¬ (i < 0 ∨ xlen S p o ≤ i.toNatClampNeg) then some (xJ S p o i.toNatClampNeg) else none
def xar (S : xS) (p : Nat) (r : Option Nat) (i : Int32) : Option (Option Nat) := r.bind fun o => if o < xcap S p ∧ ¬ (i < 0 ∨ xlen S p o ≤ i.toNatClampNeg) then some (if xecT.getD p 0 = 1 then some i.toNatClampNeg else xR S p o i.toNatClampNeg) else none
def xln (S : xS) (p : Nat) (r : Option Nat) : Option Int32 := r.bind fun o => if o < xcap S p then some (Int32.ofNat (xlen S p o)) else none
def xsi (S : xS) (p : Nat) (r : Option Nat) (i v : Int32) : Option xS := r.bind fun o => if o < xcap S p ∧ ¬ (i < 0 ∨ xlen S p o ≤ i.toNatClampNeg) then some (wI S p o i.toNatClampNeg v) else none
def xsj (S : xS) (p : Nat) (r : Option Nat) (i : Int32) (v : Int64) : Option xS := r.bind fun o => if o < xcap S p ∧ ¬ (i < 0 ∨ xlen S p o ≤ i.toNatClampNeg) then some (wJ S p o i.toNatClampNeg v) else none
def xsr (S : xS) (p : Nat) (r : Option Nat) (i : Int32) (v : Option Nat) : Option xS := r.bind fun o => if o < xcap S p ∧ ¬ (i < 0 ∨ xlen S p o ≤ i.toNatClampNeg) then some (wR S p o i.toNatClampNeg v) else none
theorem rb_s {β : Type} {r : Option Nat} {P : Nat → Prop} {d : ∀ o, Decidable (P o)} {f : Nat → β} {v : β} (h : (r.bind fun o => @ite _ (P o) (d o) (some (f o)) none) = some v) : ∃ o, r = some o ∧ P o ∧ v = f o := by
  cases r with
  | none => cases h
  | some o =>
    have h1 : (@ite _ (P o) (d o) (some (f o)) none) = some v := h
    by_cases e : P o
    · rw [if_pos e] at h1; cases h1; exact ⟨o, rfl, e, rfl⟩
    · rw [if_neg e] at h1; cases h1
section XROWS
variable {p : Program} {l : Launch} {e : Env} {R : Room} {s : State} {m : MethodId} {args : Array Value} {below : List Frame} {meth : Method} {c : Code} {H : Heap} {locs : List Loc} {cells slots : Nat} {Q : State → Prop} {Γ : xGh} {γ : xMv} {cc : ByteArray} {nL pc : Nat} {ls : Array Slot} {rest : List Value} {S S2 : xS} {P o k idx cx : Nat} {r : Option Nat} {own ref : String} {CN : String} {TT : u_T} {NN : Nat}
/-- an object's field is read -/
theorem x_get {v : Value} (C : xC2 p m c s args Γ cc nL own) (hX : xX Γ γ S H) (hp : P < 64) (hkd : xkd P = 1) (ho : o < xcap S P) (hc : xcl S P o = cx) (hcl : xCl[cx]? = some (CN, TT, NN)) (hin : ∀ w ∈ u_ws CN TT NN, w ∈ lw_all) (hk : k < NN) (q : xLk own idx ref (TT k).2.1 (TT k).2.2.1) (hs : ∀ x, s.fieldFound? (TT k).1 (TT k).2.1 (TT k).2.2.1 = some x → s.fieldFound? ref (TT k).2.1 (TT k).2.2.1 = some x) (hv : xfv γ S cx P o k = v) (hdg : decode cc pc = .ok (.getfield idx, 3))
    (kk : W p l e R s m args below meth c H locs cells slots Q (F0 m (pc + 3) ls (v :: rest))) : W p l e R s m args below meth c H locs cells slots Q (F0 m pc ls (.ref (ad γ P o) :: rest)) := by
  obtain ⟨⟨⟨hx, hb, hml, hown, hts⟩, hK, hA⟩, hT9⟩ := C
  have hl : xlv γ S (P, o) := xlv_of hp (by omega) ho
  obtain ⟨j, hj, hw⟩ := xws_at (Γ := Γ) hl
  rw [xce_obj hp hkd, hc] at hw
  rcases q with q | ⟨h, q⟩
  · exact va_get (v := v) (C := CN) (T := TT) (N := NN) hx hb hts hin hown hK hX.list.1 j hw hcl k hk (hts _ q) hs (by rw [xfs_at hcl hk, hv]) hdg kk
  · exact va_getN (v := v) (C := CN) (T := TT) (N := NN) hx hb hts hin hown hK hX.list.1 j hw hcl k hk (va_Nw.use rfl (hT9.1 _ q rfl)) hs (by rw [xfs_at hcl hk, hv]) hdg kk
/-- an object's field is written -/
theorem x_put {v : Value} {ty : FieldType} (C : xC2 p m c s args Γ cc nL own) (hX : xX Γ γ S H) (hS : va_S (yA Γ) s.heap H locs) (hp : P < 64) (hkd : xkd P = 1) (ho : o < xcap S P) (hc : xcl S P o = cx) (hcl : xCl[cx]? = some (CN, TT, NN)) (hin : ∀ w ∈ u_ws CN TT NN, w ∈ lw_all) (ty0 : Nat → FieldType) (hty : ∀ k, k < NN → parseFieldDescriptor (TT k).2.2.1 = some (ty0 k)) (hnm : ∀ a, a < NN → ∀ b, b < NN → a ≠ b → (TT a).2.1 ≠ (TT b).2.1) (hk : k < NN) (q : xLk own idx ref (TT k).2.1 (TT k).2.2.1) (hs : ∀ x, s.fieldFound? (TT k).1 (TT k).2.1 (TT k).2.2.1 = some x → s.fieldFound? ref (TT k).2.1 (TT k).2.2.1 = some x) (hfin : (TT k).2.2.2 = false) (hd : ty0 k = ty) (hn : narrow ty v = v) (hfit : fits ty v = true)
    (hK2 : S2.1 = S.1 ∧ S2.2.1 = S.2.1 ∧ S2.2.2.1 = S.2.2.1 ∧ xT S2 = xT S ∧ xF S2 = xF S) (hv : xfv γ S2 cx P o k = v) (hv2 : ∀ j, j ≠ k → xfv γ S2 cx P o j = xfv γ S cx P o j) (ho2 : ∀ a b, ¬ (a = P ∧ b = o) → xI S2 a b = xI S a b ∧ xJ S2 a b = xJ S a b ∧ xR S2 a b = xR S a b) (hcd : xcd S2) (hdg : decode cc pc = .ok (.putfield idx, 3))
    (kk : ∀ (H : Heap) (locs : List Loc), xX Γ γ S2 H → va_S (yA Γ) s.heap H locs → W p l e R s m args below meth c H locs cells slots Q (F0 m (pc + 3) ls rest)) : W p l e R s m args below meth c H locs cells slots Q (F0 m pc ls (v :: .ref (ad γ P o) :: rest)) := by
  obtain ⟨⟨⟨hx, hb, hml, hown, hts⟩, hK, hA⟩, hT9⟩ := C
  have hl : xlv γ S (P, o) := xlv_of hp (by omega) ho
  obtain ⟨j, hj, hw⟩ := xws_at (Γ := Γ) hl
  rw [xce_obj hp hkd, hc] at hw
  obtain ⟨hPw, hDw⟩ := hX.list
  have hcap : ∀ a, xcap S2 a = xcap S a := fun a => by unfold xcap xN; rw [hK2.1]
  have hxk : ∀ a b, xK S2 a b = xK S a b := fun a b => by unfold xK; rw [hK2.2.1]
  have hxl : ∀ a b, xL S2 a b = xL S a b := fun a b => by unfold xL; rw [hK2.2.2.1]
  have hcl2 : xcl S2 P o = cx := by rw [← hc]; unfold xcl; rw [hxk]
  have key : ∀ H1 : Heap, va_P (yD Γ) xCl ((xws Γ γ S).set j (ad γ P o, .inr (cx, (xfs γ S cx P o).set k v))) H1 → xX Γ γ S2 H1 := by
    intro H1 hP1
    refine hX.back (r := (P, o)) hl hj hP1 (fun r' => ?_) rfl ?_ (fun r' hr' hne => ?_) (fun a b h9 => ?_) (fun a b h1 h2 => ?_) hcd (fun p => by unfold xN; rw [hK2.1])
    · unfold xlv; rw [hcap, hcap]
    · rw [xce_obj hp hkd, hcl2, xfs_set (S' := S2) hcl hk hv hv2]
    · have h3 : ¬ (r'.1 = P ∧ r'.2 = o) := fun h => hne (Prod.ext h.1 h.2)
      obtain ⟨i1, i2, i3⟩ := ho2 r'.1 r'.2 h3
      exact xce_eq (hxk _ _) (hxl _ _) i1 i2 (by rw [hK2.2.2.2.2]) i3 (by rw [hK2.2.2.2.1]) (fun _ => by rw [hK2.2.2.2.1])
    · rw [hK2.2.2.2.1]; exact hX.2.2.2.1 a b h9
    · rw [hxk]; rw [hcap] at h2; exact hX.2.2.2.2.1 a b h1 h2
  rcases q with q | ⟨h, q⟩
  · exact va_put (v := v) (ty := ty) (C := CN) (T := TT) (N := NN) hx hb hts hin ty0 hty hnm hown hK hPw hDw hS j hw hcl k hk (hts _ q) hs hfin (by rw [hty k hk, hd]) hn hfit (by unfold xfs; rw [List.length_map, List.length_range, xnf_of hcl]; exact hk) hdg (fun H1 locs1 hP1 hD1 hS1 => kk H1 locs1 (key H1 hP1) hS1)
  · exact va_putN (v := v) (ty := ty) (C := CN) (T := TT) (N := NN) hx hb hts hin ty0 hty hnm hown hK hPw hDw hS j hw hcl k hk (va_Nw.use rfl (hT9.1 _ q rfl)) hs hfin (by rw [hty k hk, hd]) hn hfit (by unfold xfs; rw [List.length_map, List.length_range, xnf_of hcl]; exact hk) hdg (fun H1 locs1 hP1 hD1 hS1 => kk H1 locs1 (key H1 hP1) hS1)
end XROWS
theorem xX.cell {Γ : xGh} {γ : xMv} {S S' : xS} {H H1 : Heap} {P o : Nat} {j : Nat} {e' : va_E} (hX : xX Γ γ S H) (hl : xlv γ S (P, o)) (hj : (xro γ S)[j]? = some (P, o)) (hP1 : va_P (yD Γ) xCl ((xws Γ γ S).set j (ad γ P o, e')) H1)
    (h1 : S'.1 = S.1) (h2 : S'.2.1 = S.2.1) (h3 : S'.2.2.1 = S.2.2.1) (h4 : xT S' = xT S) (h5 : ∀ a b, ¬ (a = P ∧ b = o) → xI S' a b = xI S a b ∧ xJ S' a b = xJ S a b ∧ xF S' a b = xF S a b ∧ xR S' a b = xR S a b) (he : xce Γ γ S' (P, o) = e') (hcd : xcd S') : xX Γ γ S' H1 := by
  have hcap : ∀ a, xcap S' a = xcap S a := fun a => by unfold xcap xN; rw [h1]
  have hxk : ∀ a b, xK S' a b = xK S a b := fun a b => by unfold xK; rw [h2]
  have hxl : ∀ a b, xL S' a b = xL S a b := fun a b => by unfold xL; rw [h3]
  refine hX.back (r := (P, o)) hl hj hP1 (fun r' => ?_) rfl he (fun r' hr' hne => ?_) (fun a b h9 => ?_) (fun a b g1 g2 => ?_) hcd (fun p => by unfold xN; rw [h1])
  · unfold xlv; rw [hcap, hcap]
  · have g3 : ¬ (r'.1 = P ∧ r'.2 = o) := fun h => hne (Prod.ext h.1 h.2)
    obtain ⟨i1, i2, i3, i4⟩ := h5 r'.1 r'.2 g3
    exact xce_eq (hxk _ _) (hxl _ _) i1 i2 i3 i4 (by rw [h4]) (fun _ => by rw [h4])
  · rw [h4]; exact hX.2.2.2.1 a b h9
  · rw [hxk]; rw [hcap] at g2; exact hX.2.2.2.2.1 a b g1 g2
theorem xcd_wR8 {S : xS} {P o k : Nat} {v : Option Nat} (hkd : xkd P = 8) (h : xcd S) (hv : ∀ y, v = some y → y < xcap S (xep P)) : xcd (wR S P o k v) := by
  refine ⟨fun p o' k' y a b c d => ?_, fun p o' k' y a b c d => ?_, h.2.2⟩
  · have hne : ¬ (p = P ∧ o' = o) := fun q => by rw [q.1, hkd] at a; cases a
    rw [xR_wR, if_neg hne] at d
    exact h.1 p o' k' y a b c d
  · rw [xR_wR] at d
    by_cases hq : p = P ∧ o' = o
    · rw [if_pos hq] at d
      unfold va_up at d
      by_cases hk : k' = k
      · rw [if_pos hk] at d; rw [hq.1]; exact hv y d
      · rw [if_neg hk] at d; rw [hq.1] at b c ⊢; rw [hq.2] at b; exact h.2.1 P o k' y (by rw [← hq.1]; exact a) b c d
    · rw [if_neg hq] at d
      exact h.2.1 p o' k' y a b c d
theorem xcd_wR1 {S : xS} {P o k : Nat} {v : Option Nat} (hkd : xkd P = 1) (h : xcd S) (hv : ∀ y, v = some y → y < xcap S (xfk (xcl S P o) k).2.1) : xcd (wR S P o k v) := by
  refine ⟨fun p o' k' y a b c d => ?_, fun p o' k' y a b c d => ?_, h.2.2⟩
  · rw [xR_wR] at d
    by_cases hq : p = P ∧ o' = o
    · obtain ⟨rfl, rfl⟩ := hq
      rw [if_pos ⟨rfl, rfl⟩] at d
      unfold va_up at d
      by_cases hk : k' = k
      · rw [if_pos hk] at d; rw [hk]; exact hv y d
      · rw [if_neg hk] at d; exact h.1 p o' k' y a b c d
    · rw [if_neg hq] at d
      exact h.1 p o' k' y a b c d
  · have hne : ¬ (p = P ∧ o' = o) := fun q => by rw [q.1, hkd] at a; cases a
    rw [xR_wR, if_neg hne] at d
    exact h.2.1 p o' k' y a b c d
theorem xcl1 {S : xS} {P o cx : Nat} (h1 : xclT.getD P [] = [cx]) : xcl S P o = cx := by
  unfold xcl
  rw [h1]
  cases xK S P o with
  | zero => rfl
  | succ n => rfl
theorem xak_of {S : xS} {P o d : Nat} (h : xkd P = d) (hd : d ≠ 10) : xak S P o = d := by
  unfold xak
  rw [if_neg (by omega), h]
theorem xat_of {S : xS} {P o t : Nat} (h : xkd P ≠ 10) (ht : xtyT.getD P 0 = t) : xat S P o = t := by
  unfold xat
  rw [if_neg h, ht]
section XROWS2
variable {p : Program} {l : Launch} {e : Env} {R : Room} {s : State} {m : MethodId} {args : Array Value} {below : List Frame} {meth : Method} {c : Code} {H : Heap} {locs : List Loc} {cells slots : Nat} {Q : State → Prop} {Γ : xGh} {γ : xMv} {cc : ByteArray} {nL pc : Nat} {ls : Array Slot} {rest : List Value} {S S2 : xS} {P o k idx cx : Nat} {r : Option Nat} {own ref : String} {CN : String} {TT : u_T} {NN : Nat}
theorem x_arr {d t : Nat} (hX : xX Γ γ S H) (hp : P < 64) (hkd : xkd P = d) (hd : 2 ≤ d ∧ d < 9) (ht : xtyT.getD P 0 = t) (ho : o < xcap S P) : ∃ j : Nat, (xro γ S)[j]? = some (P, o) ∧ (xws Γ γ S)[j]? = some (ad γ P o, .inl (yk Γ t, xlen S P o, if d = 6 then .inr (.inr (.inl (xF S P o))) else if d = 7 then .inr (.inl (xJ S P o)) else if d = 8 then .inr (.inr (.inr (.inr (xel γ S P o)))) else .inl (xI S P o))) := by
  obtain ⟨j, hj, hw⟩ := xws_at (Γ := Γ) (xlv_of (γ := γ) hp (by omega) ho)
  rw [xce_arr hp (by omega) (by omega), xak_of hkd (by omega), xat_of (by omega) ht] at hw
  exact ⟨j, hj, hw⟩
theorem x_ia {i v : Int32} (C : xC2 p m c s args Γ cc nL own) (hp : P < 64) (hkd : xkd P = 2) (ht : xtyT.getD P 0 = 0) (hX : xX Γ γ S H) (e1 : xai S P r i = some v) (hdg : decode cc pc = .ok (.iaload, 1))
    (kk : W p l e R s m args below meth c H locs cells slots Q (F0 m (pc + 1) ls (.int v :: rest))) : W p l e R s m args below meth c H locs cells slots Q (F0 m pc ls (.int i :: xv γ P r :: rest)) := by
  obtain ⟨⟨⟨hx, hb, hml, hown, hts⟩, hK, hA⟩, hT9⟩ := C
  obtain ⟨o, rfl, ⟨ho, hin⟩, rfl⟩ := rb_s e1
  obtain ⟨j, hj, hw⟩ := x_arr hX hp hkd (by omega) ht ho
  exact va_iald hx hb hK hX.list.1 j 0 hw (xtl_at (by decide)) hin hdg kk
theorem x_za {i v : Int32} (C : xC2 p m c s args Γ cc nL own) (hp : P < 64) (hkd : xkd P = 3) (ht : xtyT.getD P 0 = 1) (hX : xX Γ γ S H) (e1 : xai S P r i = some v) (hdg : decode cc pc = .ok (.baload, 1))
    (kk : W p l e R s m args below meth c H locs cells slots Q (F0 m (pc + 1) ls (.int v :: rest))) : W p l e R s m args below meth c H locs cells slots Q (F0 m pc ls (.int i :: xv γ P r :: rest)) := by
  obtain ⟨⟨⟨hx, hb, hml, hown, hts⟩, hK, hA⟩, hT9⟩ := C
  obtain ⟨o, rfl, ⟨ho, hin⟩, rfl⟩ := rb_s e1
  obtain ⟨j, hj, hw⟩ := x_arr hX hp hkd (by omega) ht ho
  exact va_zald hx hb hK hX.list.1 j 1 hw (xtl_at (by decide)) hin hdg kk
theorem x_ba {i v : Int32} (C : xC2 p m c s args Γ cc nL own) (hp : P < 64) (hkd : xkd P = 4) (ht : xtyT.getD P 0 = 3) (hX : xX Γ γ S H) (e1 : xai S P r i = some v) (hdg : decode cc pc = .ok (.baload, 1))
    (kk : W p l e R s m args below meth c H locs cells slots Q (F0 m (pc + 1) ls (.int v :: rest))) : W p l e R s m args below meth c H locs cells slots Q (F0 m pc ls (.int i :: xv γ P r :: rest)) := by
  obtain ⟨⟨⟨hx, hb, hml, hown, hts⟩, hK, hA⟩, hT9⟩ := C
  obtain ⟨o, rfl, ⟨ho, hin⟩, rfl⟩ := rb_s e1
  obtain ⟨j, hj, hw⟩ := x_arr hX hp hkd (by omega) ht ho
  exact va_bald hx hb hK hX.list.1 j 3 hw (xtl_at (by decide)) hin hdg kk
theorem x_ja {i : Int32} {v : Int64} (C : xC2 p m c s args Γ cc nL own) (hp : P < 64) (hkd : xkd P = 7) (ht : xtyT.getD P 0 = 2) (hX : xX Γ γ S H) (e1 : xaj S P r i = some v) (hdg : decode cc pc = .ok (.laload, 1))
    (kk : W p l e R s m args below meth c H locs cells slots Q (F0 m (pc + 1) ls (.long v :: rest))) : W p l e R s m args below meth c H locs cells slots Q (F0 m pc ls (.int i :: xv γ P r :: rest)) := by
  obtain ⟨⟨⟨hx, hb, hml, hown, hts⟩, hK, hA⟩, hT9⟩ := C
  obtain ⟨o, rfl, ⟨ho, hin⟩, rfl⟩ := rb_s e1
  obtain ⟨j, hj, hw⟩ := x_arr hX hp hkd (by omega) ht ho
  exact va_lald hx hb hK hX.list.1 j 2 hw (xtl_at (by decide)) hin hdg kk
theorem x_ra {i : Int32} {v : Option Nat} {t P2 : Nat} (C : xC2 p m c s args Γ cc nL own) (hp : P < 64) (hkd : xkd P = 8) (ht : xtyT.getD P 0 = t) (ht2 : t < 14) (hr : (xtys.getD t .int).isReference = true) (h2 : xep P = P2) (hX : xX Γ γ S H) (e1 : xar S P r i = some v) (hdg : decode cc pc = .ok (.aaload, 1))
    (kk : W p l e R s m args below meth c H locs cells slots Q (F0 m (pc + 1) ls (xv γ P2 v :: rest))) : W p l e R s m args below meth c H locs cells slots Q (F0 m pc ls (.int i :: xv γ P r :: rest)) := by
  obtain ⟨⟨⟨hx, hb, hml, hown, hts⟩, hK, hA⟩, hT9⟩ := C
  obtain ⟨o, rfl, ⟨ho, hin⟩, rfl⟩ := rb_s e1
  obtain ⟨j, hj, hw⟩ := x_arr hX hp hkd (by omega) ht ho
  have hc := hX.list.1 j _ hw
  have hlt : i.toNatClampNeg < xlen S P o := Nat.not_le.mp fun q => hin (Or.inr q)
  refine W.aald (v := va_rf (xel γ S P o i.toNatClampNeg)) hx hb hc ((hK.2 t _ (xtl_at ht2)).1 _ (fun j => va_rf (xel γ S P o j))) hr (fun q => by cases q) (by show ¬ (i < 0 ∨ (arrV _ _ _).slots.size ≤ _); rw [arrV_size]; exact hin) (by show (arrV _ _ _).slots[_]? = _; rw [arrV_read _ _ hlt]) rfl rfl hdg ?_
  have e9 : va_rf (xel γ S P o i.toNatClampNeg) = xv γ (xep P) (if xecT.getD P 0 = 1 then some i.toNatClampNeg else xR S P o i.toNatClampNeg) := by
    unfold xel
    by_cases h : xecT.getD P 0 = 1
    · rw [if_pos h, if_pos h]; rfl
    · rw [if_neg h, if_neg h]
  rw [e9, h2]
  exact kk
theorem x_len {n : Int32} {d t : Nat} (C : xC2 p m c s args Γ cc nL own) (hp : P < 64) (hkd : xkd P = d) (hd : 2 ≤ d ∧ d < 9) (ht : xtyT.getD P 0 = t) (ht2 : t < 14) (hX : xX Γ γ S H) (e1 : xln S P r = some n) (hdg : decode cc pc = .ok (.arraylength, 1))
    (kk : W p l e R s m args below meth c H locs cells slots Q (F0 m (pc + 1) ls (.int n :: rest))) : W p l e R s m args below meth c H locs cells slots Q (F0 m pc ls (xv γ P r :: rest)) := by
  obtain ⟨⟨⟨hx, hb, hml, hown, hts⟩, hK, hA⟩, hT9⟩ := C
  obtain ⟨o, rfl, ho, rfl⟩ := rb_s e1
  obtain ⟨j, hj, hw⟩ := x_arr hX hp hkd hd ht ho
  exact va_alen hx hb hK hX.list.1 j t hw (xtl_at ht2) rfl hdg kk
theorem x_is {i v : Int32} (C : xC2 p m c s args Γ cc nL own) (hp : P < 64) (hkd : xkd P = 2) (ht : xtyT.getD P 0 = 0) (hX : xX Γ γ S H) (hS : va_S (yA Γ) s.heap H locs) (e1 : xsi S P r i v = some S2) (hdg : decode cc pc = .ok (.iastore, 1))
    (kk : ∀ (H : Heap) (locs : List Loc), xX Γ γ S2 H → va_S (yA Γ) s.heap H locs → W p l e R s m args below meth c H locs cells slots Q (F0 m (pc + 1) ls rest)) : W p l e R s m args below meth c H locs cells slots Q (F0 m pc ls (.int v :: .int i :: xv γ P r :: rest)) := by
  obtain ⟨⟨⟨hx, hb, hml, hown, hts⟩, hK, hA⟩, hT9⟩ := C
  obtain ⟨o, rfl, ⟨ho, hin⟩, rfl⟩ := rb_s e1
  obtain ⟨j, hj, hw⟩ := x_arr hX hp hkd (by omega) ht ho
  refine va_iast hx hb hK hX.list.1 hX.list.2 hS j 0 hw (xtl_at (by decide)) hin hdg (fun H1 locs1 hP1 hD1 hS1 => kk H1 locs1 ?_ hS1)
  refine hX.cell (xlv_of hp (by omega) ho) hj hP1 rfl rfl rfl rfl (fun a b hab => ⟨by rw [xI_wI, if_neg hab], rfl, rfl, rfl⟩) ?_ (xcd_eq (S := S) rfl rfl rfl rfl hX.2.2.2.2.2)
  rw [xce_arr hp (by omega) (by omega), xak_of hkd (by omega), xat_of (by omega) ht, xI_wS]
  rfl
theorem x_zs {i v : Int32} (C : xC2 p m c s args Γ cc nL own) (hp : P < 64) (hkd : xkd P = 3) (ht : xtyT.getD P 0 = 1) (hX : xX Γ γ S H) (hS : va_S (yA Γ) s.heap H locs) (e1 : xsi S P r i (vp_nar .boolean v) = some S2) (hdg : decode cc pc = .ok (.bastore, 1))
    (kk : ∀ (H : Heap) (locs : List Loc), xX Γ γ S2 H → va_S (yA Γ) s.heap H locs → W p l e R s m args below meth c H locs cells slots Q (F0 m (pc + 1) ls rest)) : W p l e R s m args below meth c H locs cells slots Q (F0 m pc ls (.int v :: .int i :: xv γ P r :: rest)) := by
  obtain ⟨⟨⟨hx, hb, hml, hown, hts⟩, hK, hA⟩, hT9⟩ := C
  obtain ⟨o, rfl, ⟨ho, hin⟩, rfl⟩ := rb_s e1
  obtain ⟨j, hj, hw⟩ := x_arr hX hp hkd (by omega) ht ho
  refine va_zast hx hb hK hX.list.1 hX.list.2 hS j 1 hw (xtl_at (by decide)) hin hdg (fun H1 locs1 hP1 hD1 hS1 => kk H1 locs1 ?_ hS1)
  refine hX.cell (xlv_of hp (by omega) ho) hj hP1 rfl rfl rfl rfl (fun a b hab => ⟨by rw [xI_wI, if_neg hab], rfl, rfl, rfl⟩) ?_ (xcd_eq (S := S) rfl rfl rfl rfl hX.2.2.2.2.2)
  rw [xce_arr hp (by omega) (by omega), xak_of hkd (by omega), xat_of (by omega) ht, xI_wS]
  rfl
theorem x_bs {i v : Int32} (C : xC2 p m c s args Γ cc nL own) (hp : P < 64) (hkd : xkd P = 4) (ht : xtyT.getD P 0 = 3) (hX : xX Γ γ S H) (hS : va_S (yA Γ) s.heap H locs) (e1 : xsi S P r i (vp_nar .byte v) = some S2) (hdg : decode cc pc = .ok (.bastore, 1))
    (kk : ∀ (H : Heap) (locs : List Loc), xX Γ γ S2 H → va_S (yA Γ) s.heap H locs → W p l e R s m args below meth c H locs cells slots Q (F0 m (pc + 1) ls rest)) : W p l e R s m args below meth c H locs cells slots Q (F0 m pc ls (.int v :: .int i :: xv γ P r :: rest)) := by
  obtain ⟨⟨⟨hx, hb, hml, hown, hts⟩, hK, hA⟩, hT9⟩ := C
  obtain ⟨o, rfl, ⟨ho, hin⟩, rfl⟩ := rb_s e1
  obtain ⟨j, hj, hw⟩ := x_arr hX hp hkd (by omega) ht ho
  refine va_bast hx hb hK hX.list.1 hX.list.2 hS j 3 hw (xtl_at (by decide)) hin hdg (fun H1 locs1 hP1 hD1 hS1 => kk H1 locs1 ?_ hS1)
  refine hX.cell (xlv_of hp (by omega) ho) hj hP1 rfl rfl rfl rfl (fun a b hab => ⟨by rw [xI_wI, if_neg hab], rfl, rfl, rfl⟩) ?_ (xcd_eq (S := S) rfl rfl rfl rfl hX.2.2.2.2.2)
  rw [xce_arr hp (by omega) (by omega), xak_of hkd (by omega), xat_of (by omega) ht, xI_wS]
  rfl
theorem x_js {i : Int32} {v : Int64} (C : xC2 p m c s args Γ cc nL own) (hp : P < 64) (hkd : xkd P = 7) (ht : xtyT.getD P 0 = 2) (hX : xX Γ γ S H) (hS : va_S (yA Γ) s.heap H locs) (e1 : xsj S P r i v = some S2) (hdg : decode cc pc = .ok (.lastore, 1))
    (kk : ∀ (H : Heap) (locs : List Loc), xX Γ γ S2 H → va_S (yA Γ) s.heap H locs → W p l e R s m args below meth c H locs cells slots Q (F0 m (pc + 1) ls rest)) : W p l e R s m args below meth c H locs cells slots Q (F0 m pc ls (.long v :: .int i :: xv γ P r :: rest)) := by
  obtain ⟨⟨⟨hx, hb, hml, hown, hts⟩, hK, hA⟩, hT9⟩ := C
  obtain ⟨o, rfl, ⟨ho, hin⟩, rfl⟩ := rb_s e1
  obtain ⟨j, hj, hw⟩ := x_arr hX hp hkd (by omega) ht ho
  refine va_last hx hb hK hX.list.1 hX.list.2 hS j 2 hw (xtl_at (by decide)) hin hdg (fun H1 locs1 hP1 hD1 hS1 => kk H1 locs1 ?_ hS1)
  refine hX.cell (xlv_of hp (by omega) ho) hj hP1 rfl rfl rfl rfl (fun a b hab => ⟨rfl, by rw [xJ_wJ, if_neg hab], rfl, rfl⟩) ?_ (xcd_eq (S := S) rfl rfl rfl rfl hX.2.2.2.2.2)
  rw [xce_arr hp (by omega) (by omega), xak_of hkd (by omega), xat_of (by omega) ht, xJ_wS]
  rfl
/-- the reference x is stored: an object of the elements' very class -/
theorem x_rs {i : Int32} {t x : Nat} (C : xC2 p m c s args Γ cc nL own) (hp : P < 64) (hkd : xkd P = 8) (hec : xecT.getD P 0 = 0) (ht : xtyT.getD P 0 = t) (ht2 : t < 14) (hpe : xep P < 64) (hke : xkd (xep P) = 1) (h1 : xclT.getD (xep P) [] = [cx]) (hcl : xCl[cx]? = some (CN, TT, NN)) (hty : xtys.getD t .int = .object CN) (hX : xX Γ γ S H) (hS : va_S (yA Γ) s.heap H locs) (hx9 : x < xcap S (xep P)) (e1 : xsr S P r i (some x) = some S2) (hdg : decode cc pc = .ok (.aastore, 1))
    (kk : ∀ (H : Heap) (locs : List Loc), xX Γ γ S2 H → va_S (yA Γ) s.heap H locs → W p l e R s m args below meth c H locs cells slots Q (F0 m (pc + 1) ls rest)) : W p l e R s m args below meth c H locs cells slots Q (F0 m pc ls (.ref (ad γ (xep P) x) :: .int i :: xv γ P r :: rest)) := by
  obtain ⟨⟨⟨hx, hb, hml, hown, hts⟩, hK, hA⟩, hT9⟩ := C
  obtain ⟨o, rfl, ⟨ho, hin⟩, rfl⟩ := rb_s e1
  obtain ⟨j, hj, hw⟩ := x_arr hX hp hkd (by omega) ht ho
  obtain ⟨j2, -, hw2⟩ := xws_at (Γ := Γ) (xlv_of (γ := γ) hpe (by omega) hx9)
  rw [xce_obj hpe hke, xcl1 h1] at hw2
  refine va_astq (r := (CN, TT, NN)) hx hb hK hX.list.1 hX.list.2 hS j t j2 cx hw (by rw [xtl_at ht2, hty]) hw2 hcl hin hdg (fun H1 locs1 hP1 hD1 hS1 => kk H1 locs1 ?_ hS1)
  refine hX.cell (xlv_of hp (by omega) ho) hj hP1 rfl rfl rfl rfl (fun a b hab => ⟨rfl, rfl, rfl, by rw [xR_wR, if_neg hab]⟩) ?_ (xcd_wR8 hkd hX.2.2.2.2.2 (fun y hy => by cases hy; exact hx9))
  rw [xce_arr hp (by omega) (by omega), xak_of hkd (by omega), xat_of (by omega) ht]
  have e9 : xel γ (wR S P o i.toNatClampNeg (some x)) P o = va_up (xel γ S P o) i.toNatClampNeg (some (ad γ (xep P) x)) := by
    funext q
    unfold xel
    rw [if_neg (by omega), if_neg (by omega), xR_wS]
    unfold va_up
    by_cases hq : q = i.toNatClampNeg
    · simp [hq]
    · simp [hq]
  rw [e9]
  rfl
/-! fields: of the system's own object; of the pools of one class; of steps -/
theorem xz0 {S : xS} : 0 < xcap S 0 := Nat.zero_lt_one
theorem x_g0i (C : xC2 p m c s args Γ cc nL own) (q : Cond.fieldLink own idx RX0 (TX0 k).2.1 (TX0 k).2.2.1 ∈ lw_all) (hk : k < 42) (hT : (TX0 k).1 = RX0) (hf : (xfk 0 k).1 = 0) (hX : xX Γ γ S H) (hdg : decode cc pc = .ok (.getfield idx, 3))
    (kk : W p l e R s m args below meth c H locs cells slots Q (F0 m (pc + 3) ls (.int (xI S 0 0 k) :: rest))) : W p l e R s m args below meth c H locs cells slots Q (F0 m pc ls (.ref (ad γ 0 0) :: rest)) :=
  x_get C hX (by decide) rfl xz0 (xcl1 (cx := 0) rfl) rfl in_X0 hk (xlk q) (fun x h => by rw [hT] at h; exact h) (by unfold xfv; rw [if_pos hf]) hdg kk
theorem x_g0j (C : xC2 p m c s args Γ cc nL own) (q : Cond.fieldLink own idx RX0 (TX0 k).2.1 (TX0 k).2.2.1 ∈ lw_all) (hk : k < 42) (hT : (TX0 k).1 = RX0) (hf : (xfk 0 k).1 = 1) (hX : xX Γ γ S H) (hdg : decode cc pc = .ok (.getfield idx, 3))
    (kk : W p l e R s m args below meth c H locs cells slots Q (F0 m (pc + 3) ls (.long (xJ S 0 0 k) :: rest))) : W p l e R s m args below meth c H locs cells slots Q (F0 m pc ls (.ref (ad γ 0 0) :: rest)) :=
  x_get C hX (by decide) rfl xz0 (xcl1 (cx := 0) rfl) rfl in_X0 hk (xlk q) (fun x h => by rw [hT] at h; exact h) (by unfold xfv; rw [if_neg (by omega), if_pos hf]) hdg kk
theorem x_g0r {P2 : Nat} (C : xC2 p m c s args Γ cc nL own) (q : Cond.fieldLink own idx RX0 (TX0 k).2.1 (TX0 k).2.2.1 ∈ lw_all) (hk : k < 42) (hT : (TX0 k).1 = RX0) (hf : xfk 0 k = (2, P2, 0)) (hX : xX Γ γ S H) (hdg : decode cc pc = .ok (.getfield idx, 3))
    (kk : W p l e R s m args below meth c H locs cells slots Q (F0 m (pc + 3) ls (xv γ P2 (xR S 0 0 k) :: rest))) : W p l e R s m args below meth c H locs cells slots Q (F0 m pc ls (.ref (ad γ 0 0) :: rest)) :=
  x_get C hX (by decide) rfl xz0 (xcl1 (cx := 0) rfl) rfl in_X0 hk (xlk q) (fun x h => by rw [hT] at h; exact h) (by unfold xfv; rw [hf]; rfl) hdg kk
def xr0 (S : xS) (k : Nat) : Option (Option Nat) := some (xR S 0 0 k)
theorem x_g0v {P2 : Nat} {v : Option Nat} (C : xC2 p m c s args Γ cc nL own) (q : Cond.fieldLink own idx RX0 (TX0 k).2.1 (TX0 k).2.2.1 ∈ lw_all) (hk : k < 42) (hT : (TX0 k).1 = RX0) (hf : xfk 0 k = (2, P2, 0)) (hX : xX Γ γ S H) (e1 : xr0 S k = some v) (hdg : decode cc pc = .ok (.getfield idx, 3))
    (kk : W p l e R s m args below meth c H locs cells slots Q (F0 m (pc + 3) ls (xv γ P2 v :: rest))) : W p l e R s m args below meth c H locs cells slots Q (F0 m pc ls (.ref (ad γ 0 0) :: rest)) := by
  cases e1
  exact x_g0r C q hk hT hf hX hdg kk
theorem x_g0c {P2 : Nat} (C : xC2 p m c s args Γ cc nL own) (q : Cond.fieldLink own idx RX0 (TX0 k).2.1 (TX0 k).2.2.1 ∈ lw_all) (hk : k < 42) (hT : (TX0 k).1 = RX0) (hf : xfk 0 k = (3, P2, 0)) (hX : xX Γ γ S H) (hdg : decode cc pc = .ok (.getfield idx, 3))
    (kk : W p l e R s m args below meth c H locs cells slots Q (F0 m (pc + 3) ls (xv γ P2 (some 0) :: rest))) : W p l e R s m args below meth c H locs cells slots Q (F0 m pc ls (.ref (ad γ 0 0) :: rest)) :=
  x_get C hX (by decide) rfl xz0 (xcl1 (cx := 0) rfl) rfl in_X0 hk (xlk q) (fun x h => by rw [hT] at h; exact h) (by unfold xfv; rw [hf]; rfl) hdg kk
theorem x_gi {v : Int32} (C : xC2 p m c s args Γ cc nL own) (q : xLk own idx ref (TT k).2.1 (TT k).2.2.1) (hin : ∀ w ∈ u_ws CN TT NN, w ∈ lw_all) (hp : P < 64) (hkd : xkd P = 1) (h1 : xclT.getD P [] = [cx]) (hcl : xCl[cx]? = some (CN, TT, NN)) (hk : k < NN) (hf : (xfk cx k).1 = 0) (hT : (TT k).1 = ref) (hX : xX Γ γ S H) (e1 : xgi S P r k = some v) (hdg : decode cc pc = .ok (.getfield idx, 3))
    (kk : W p l e R s m args below meth c H locs cells slots Q (F0 m (pc + 3) ls (.int v :: rest))) : W p l e R s m args below meth c H locs cells slots Q (F0 m pc ls (xv γ P r :: rest)) := by
  obtain ⟨o, rfl, ho, rfl⟩ := rb_s e1
  exact x_get C hX hp hkd ho (xcl1 h1) hcl hin hk q (fun x h => by rw [hT] at h; exact h) (by unfold xfv; rw [if_pos hf]) hdg kk
theorem x_gr {v : Option Nat} {P2 : Nat} (C : xC2 p m c s args Γ cc nL own) (q : xLk own idx ref (TT k).2.1 (TT k).2.2.1) (hin : ∀ w ∈ u_ws CN TT NN, w ∈ lw_all) (hp : P < 64) (hkd : xkd P = 1) (h1 : xclT.getD P [] = [cx]) (hcl : xCl[cx]? = some (CN, TT, NN)) (hk : k < NN) (hf : xfk cx k = (2, P2, 0)) (hT : (TT k).1 = ref) (hX : xX Γ γ S H) (e1 : xgr S P r k = some v) (hdg : decode cc pc = .ok (.getfield idx, 3))
    (kk : W p l e R s m args below meth c H locs cells slots Q (F0 m (pc + 3) ls (xv γ P2 v :: rest))) : W p l e R s m args below meth c H locs cells slots Q (F0 m pc ls (xv γ P r :: rest)) := by
  obtain ⟨o, rfl, ho, rfl⟩ := rb_s e1
  exact x_get C hX hp hkd ho (xcl1 h1) hcl hin hk q (fun x h => by rw [hT] at h; exact h) (by unfold xfv; rw [hf]; rfl) hdg kk
/-- a field that holds for good an object of the pool P2: the first (md = 0), or that of the same ordinal (md = 1) -/
theorem x_gc {v P2 md w : Nat} (C : xC2 p m c s args Γ cc nL own) (q : xLk own idx ref (TT k).2.1 (TT k).2.2.1) (hin : ∀ w ∈ u_ws CN TT NN, w ∈ lw_all) (hp : P < 64) (hkd : xkd P = 1) (h1 : xclT.getD P [] = [cx]) (hcl : xCl[cx]? = some (CN, TT, NN)) (hk : k < NN) (hf : xfk cx k = (3, P2, md)) (hT : (TT k).1 = ref) (hw : (if md = 0 then 0 else v) = w) (hX : xX Γ γ S H) (e1 : xgc S P r = some v) (hdg : decode cc pc = .ok (.getfield idx, 3))
    (kk : W p l e R s m args below meth c H locs cells slots Q (F0 m (pc + 3) ls (xv γ P2 (some w) :: rest))) : W p l e R s m args below meth c H locs cells slots Q (F0 m pc ls (xv γ P r :: rest)) := by
  subst hw
  obtain ⟨o, rfl, ho, rfl⟩ := rb_s e1
  exact x_get C hX hp hkd ho (xcl1 h1) hcl hin hk q (fun x h => by rw [hT] at h; exact h) (by unfold xfv; rw [hf]; rfl) hdg kk
theorem x_pi {v : Int32} (C : xC2 p m c s args Γ cc nL own) (q : xLk own idx ref (TT k).2.1 (TT k).2.2.1) (hin : ∀ w ∈ u_ws CN TT NN, w ∈ lw_all) (ty0 : Nat → FieldType) (hty : ∀ k, k < NN → parseFieldDescriptor (TT k).2.2.1 = some (ty0 k)) (hnm : ∀ a, a < NN → ∀ b, b < NN → a ≠ b → (TT a).2.1 ≠ (TT b).2.1) (hp : P < 64) (hkd : xkd P = 1) (h1 : xclT.getD P [] = [cx]) (hcl : xCl[cx]? = some (CN, TT, NN)) (hk : k < NN) (hf : (xfk cx k).1 = 0) (hT : (TT k).1 = ref) (hfin : (TT k).2.2.2 = false) (hd : ty0 k = .int) (hX : xX Γ γ S H) (hS : va_S (yA Γ) s.heap H locs) (e1 : xpi S P r k v = some S2) (hdg : decode cc pc = .ok (.putfield idx, 3))
    (kk : ∀ (H : Heap) (locs : List Loc), xX Γ γ S2 H → va_S (yA Γ) s.heap H locs → W p l e R s m args below meth c H locs cells slots Q (F0 m (pc + 3) ls rest)) : W p l e R s m args below meth c H locs cells slots Q (F0 m pc ls (.int v :: xv γ P r :: rest)) := by
  obtain ⟨o, rfl, ho, rfl⟩ := rb_s e1
  refine x_put (S2 := wI S P o k v) (v := .int v) (ty := .int) C hX hS hp hkd ho (xcl1 h1) hcl hin ty0 hty hnm hk q (fun x h => by rw [hT] at h; exact h) hfin hd rfl rfl ⟨rfl, rfl, rfl, rfl, rfl⟩ ?_ (fun j hj => ?_) (fun a b hab => ⟨by rw [xI_wI, if_neg hab], rfl, rfl⟩) (xcd_eq (S := S) rfl rfl rfl rfl hX.2.2.2.2.2) hdg kk
  · unfold xfv; rw [if_pos hf, xI_wS]; simp [upd]
  · unfold xfv; rw [xI_wS]; simp only [upd, if_neg hj]; rfl
theorem x_pz {v : Int32} (C : xC2 p m c s args Γ cc nL own) (q : xLk own idx ref (TT k).2.1 (TT k).2.2.1) (hin : ∀ w ∈ u_ws CN TT NN, w ∈ lw_all) (ty0 : Nat → FieldType) (hty : ∀ k, k < NN → parseFieldDescriptor (TT k).2.2.1 = some (ty0 k)) (hnm : ∀ a, a < NN → ∀ b, b < NN → a ≠ b → (TT a).2.1 ≠ (TT b).2.1) (hp : P < 64) (hkd : xkd P = 1) (h1 : xclT.getD P [] = [cx]) (hcl : xCl[cx]? = some (CN, TT, NN)) (hk : k < NN) (hf : (xfk cx k).1 = 0) (hT : (TT k).1 = ref) (hfin : (TT k).2.2.2 = false) (hd : ty0 k = .boolean) (hX : xX Γ γ S H) (hS : va_S (yA Γ) s.heap H locs) (e1 : xpz S P r k v = some S2) (hdg : decode cc pc = .ok (.putfield idx, 3))
    (kk : ∀ (H : Heap) (locs : List Loc), xX Γ γ S2 H → va_S (yA Γ) s.heap H locs → W p l e R s m args below meth c H locs cells slots Q (F0 m (pc + 3) ls rest)) : W p l e R s m args below meth c H locs cells slots Q (F0 m pc ls (.int v :: xv γ P r :: rest)) := by
  obtain ⟨o, rfl, ⟨ho, h01⟩, rfl⟩ := rb_s e1
  refine x_put (S2 := wI S P o k v) (v := .int v) (ty := .boolean) C hX hS hp hkd ho (xcl1 h1) hcl hin ty0 hty hnm hk q (fun x h => by rw [hT] at h; exact h) hfin hd (nz_01 h01) (by rcases h01 with rfl | rfl <;> rfl) ⟨rfl, rfl, rfl, rfl, rfl⟩ ?_ (fun j hj => ?_) (fun a b hab => ⟨by rw [xI_wI, if_neg hab], rfl, rfl⟩) (xcd_eq (S := S) rfl rfl rfl rfl hX.2.2.2.2.2) hdg kk
  · unfold xfv; rw [if_pos hf, xI_wS]; simp [upd]
  · unfold xfv; rw [xI_wS]; simp only [upd, if_neg hj]; rfl
theorem x_pj {v : Int64} (C : xC2 p m c s args Γ cc nL own) (q : xLk own idx ref (TT k).2.1 (TT k).2.2.1) (hin : ∀ w ∈ u_ws CN TT NN, w ∈ lw_all) (ty0 : Nat → FieldType) (hty : ∀ k, k < NN → parseFieldDescriptor (TT k).2.2.1 = some (ty0 k)) (hnm : ∀ a, a < NN → ∀ b, b < NN → a ≠ b → (TT a).2.1 ≠ (TT b).2.1) (hp : P < 64) (hkd : xkd P = 1) (h1 : xclT.getD P [] = [cx]) (hcl : xCl[cx]? = some (CN, TT, NN)) (hk : k < NN) (hf : (xfk cx k).1 = 1) (hT : (TT k).1 = ref) (hfin : (TT k).2.2.2 = false) (hd : ty0 k = .long) (hX : xX Γ γ S H) (hS : va_S (yA Γ) s.heap H locs) (e1 : xpj S P r k v = some S2) (hdg : decode cc pc = .ok (.putfield idx, 3))
    (kk : ∀ (H : Heap) (locs : List Loc), xX Γ γ S2 H → va_S (yA Γ) s.heap H locs → W p l e R s m args below meth c H locs cells slots Q (F0 m (pc + 3) ls rest)) : W p l e R s m args below meth c H locs cells slots Q (F0 m pc ls (.long v :: xv γ P r :: rest)) := by
  obtain ⟨o, rfl, ho, rfl⟩ := rb_s e1
  refine x_put (S2 := wJ S P o k v) (v := .long v) (ty := .long) C hX hS hp hkd ho (xcl1 h1) hcl hin ty0 hty hnm hk q (fun x h => by rw [hT] at h; exact h) hfin hd rfl rfl ⟨rfl, rfl, rfl, rfl, rfl⟩ ?_ (fun j hj => ?_) (fun a b hab => ⟨rfl, by rw [xJ_wJ, if_neg hab], rfl⟩) (xcd_eq (S := S) rfl rfl rfl rfl hX.2.2.2.2.2) hdg kk
  · unfold xfv; rw [if_neg (by omega), if_pos hf, xJ_wS]; simp [va_up]
  · unfold xfv; rw [xJ_wS]; simp only [va_up, if_neg hj]; rfl
theorem x_pr {v : Option Nat} {P2 : Nat} (C : xC2 p m c s args Γ cc nL own) (q : xLk own idx ref (TT k).2.1 (TT k).2.2.1) (hin : ∀ w ∈ u_ws CN TT NN, w ∈ lw_all) (ty0 : Nat → FieldType) (hty : ∀ k, k < NN → parseFieldDescriptor (TT k).2.2.1 = some (ty0 k)) (hnm : ∀ a, a < NN → ∀ b, b < NN → a ≠ b → (TT a).2.1 ≠ (TT b).2.1) (hp : P < 64) (hkd : xkd P = 1) (h1 : xclT.getD P [] = [cx]) (hcl : xCl[cx]? = some (CN, TT, NN)) (hk : k < NN) (hf : xfk cx k = (2, P2, 0)) (hT : (TT k).1 = ref) (hfin : (TT k).2.2.2 = false) {ty : FieldType} (hd : ty0 k = ty) (hn : ∀ v : Option Nat, narrow ty (va_rf v) = va_rf v ∧ fits ty (va_rf v) = true) (hX : xX Γ γ S H) (hS : va_S (yA Γ) s.heap H locs) (e1 : xpr S P r k P2 v = some S2) (hdg : decode cc pc = .ok (.putfield idx, 3))
    (kk : ∀ (H : Heap) (locs : List Loc), xX Γ γ S2 H → va_S (yA Γ) s.heap H locs → W p l e R s m args below meth c H locs cells slots Q (F0 m (pc + 3) ls rest)) : W p l e R s m args below meth c H locs cells slots Q (F0 m pc ls (xv γ P2 v :: xv γ P r :: rest)) := by
  obtain ⟨o, rfl, ⟨ho, hv9⟩, rfl⟩ := rb_s e1
  refine x_put (S2 := wR S P o k v) (v := xv γ P2 v) (ty := ty) C hX hS hp hkd ho (xcl1 h1) hcl hin ty0 hty hnm hk q (fun x h => by rw [hT] at h; exact h) hfin hd (hn _).1 (hn _).2 ⟨rfl, rfl, rfl, rfl, rfl⟩ ?_ (fun j hj => ?_) (fun a b hab => ⟨rfl, rfl, by rw [xR_wR, if_neg hab]⟩) (xcd_wR1 hkd hX.2.2.2.2.2 (fun y hy => by rw [xcl1 h1, hf]; rw [hy] at hv9; simpa using hv9)) hdg kk
  · unfold xfv; rw [hf, xR_wS]; simp [va_up]
  · unfold xfv; rw [xR_wS]; simp only [va_up, if_neg hj]; rfl
/-! references compared, null or not; as locals -/
def xal (S : xS) (P : Nat) (r : Option Nat) : Prop := ∀ o, r = some o → o < xcap S P
def xac (S : xS) (P : Nat) (r r' : Option Nat) : Option Int32 := if (r.all fun o => decide (o < xcap S P)) = true ∧ (r'.all fun o => decide (o < xcap S P)) = true then some (if r = r' then 1 else 0) else none
theorem xac_s {r r' : Option Nat} {v : Int32} (hX : xX Γ γ S H) (hp : P < 64) (hk : xkd P ≠ 0) (h : xac S P r r' = some v) : (r.map (ad γ P) = r'.map (ad γ P)) ↔ v = 1 := by
  unfold xac at h
  by_cases e : (r.all fun o => decide (o < xcap S P)) = true ∧ (r'.all fun o => decide (o < xcap S P)) = true
  · rw [if_pos e] at h
    have hv := Option.some.inj h
    subst hv
    cases r with
    | none =>
      cases r' with
      | none => simp
      | some b => simp
    | some a =>
      cases r' with
      | none => simp
      | some b =>
        have ha : a < xcap S P := by simpa using e.1
        have hb : b < xcap S P := by simpa using e.2
        constructor
        · intro h2
          have h3 := hX.2.1 (P, a) (P, b) (xlv_of hp hk ha) (xlv_of hp hk hb) (by simpa using h2)
          have h4 := (Prod.mk.inj h3).2
          subst h4
          simp
        · intro h2
          by_cases hab : a = b
          · rw [hab]
          · simp [hab] at h2
  · rw [if_neg e] at h; cases h
theorem x_acne {r r' : Option Nat} {v : Int32} {off : Int} {tgt : Nat} (C : xC2 p m c s args Γ cc nL own) (hX : xX Γ γ S H) (hp : P < 64) (hk : xkd P ≠ 0) (e1 : xac S P r r' = some v) (hdg : decode cc pc = .ok (.if_acmp .ne off, 3)) (ht : (pc : Int) + off = (tgt : Int))
    (kt : ¬ v = 1 → W p l e R s m args below meth c H locs cells slots Q (F0 m tgt ls rest)) (kf : v = 1 → W p l e R s m args below meth c H locs cells slots Q (F0 m (pc + 3) ls rest)) : W p l e R s m args below meth c H locs cells slots Q (F0 m pc ls (xv γ P r' :: xv γ P r :: rest)) :=
  lv_acmp_ne C.1.1.1 C.1.1.2.1 hdg ht (fun h => kt (fun h2 => h ((xac_s hX hp hk e1).mpr h2))) (fun h => kf ((xac_s hX hp hk e1).mp h))
theorem x_aceq {r r' : Option Nat} {v : Int32} {off : Int} {tgt : Nat} (C : xC2 p m c s args Γ cc nL own) (hX : xX Γ γ S H) (hp : P < 64) (hk : xkd P ≠ 0) (e1 : xac S P r r' = some v) (hdg : decode cc pc = .ok (.if_acmp .eq off, 3)) (ht : (pc : Int) + off = (tgt : Int))
    (kt : v = 1 → W p l e R s m args below meth c H locs cells slots Q (F0 m tgt ls rest)) (kf : ¬ v = 1 → W p l e R s m args below meth c H locs cells slots Q (F0 m (pc + 3) ls rest)) : W p l e R s m args below meth c H locs cells slots Q (F0 m pc ls (xv γ P r' :: xv γ P r :: rest)) :=
  lv_acmp_eq C.1.1.1 C.1.1.2.1 hdg ht (fun h => kt ((xac_s hX hp hk e1).mp h)) (fun h => kf (fun h2 => h ((xac_s hX hp hk e1).mpr h2)))
theorem x_ifnull {r : Option Nat} {off : Int} {tgt : Nat} (C : xC2 p m c s args Γ cc nL own) (hdg : decode cc pc = .ok (.ifnull off, 3)) (ht : (pc : Int) + off = (tgt : Int))
    (kt : r = none → W p l e R s m args below meth c H locs cells slots Q (F0 m tgt ls rest)) (kf : ¬ r = none → W p l e R s m args below meth c H locs cells slots Q (F0 m (pc + 3) ls rest)) : W p l e R s m args below meth c H locs cells slots Q (F0 m pc ls (xv γ P r :: rest)) := by
  cases r with
  | none => exact lv_ifnullN C.1.1.1 C.1.1.2.1 hdg ht (kt rfl)
  | some o => exact lv_ifnull C.1.1.1 C.1.1.2.1 hdg (kf (by simp))
theorem x_ifnonnull {r : Option Nat} {off : Int} {tgt : Nat} (C : xC2 p m c s args Γ cc nL own) (hdg : decode cc pc = .ok (.ifnonnull off, 3)) (ht : (pc : Int) + off = (tgt : Int))
    (kt : ¬ r = none → W p l e R s m args below meth c H locs cells slots Q (F0 m tgt ls rest)) (kf : r = none → W p l e R s m args below meth c H locs cells slots Q (F0 m (pc + 3) ls rest)) : W p l e R s m args below meth c H locs cells slots Q (F0 m pc ls (xv γ P r :: rest)) := by
  cases r with
  | none => exact lv_ifnonnullN C.1.1.1 C.1.1.2.1 hdg (kf rfl)
  | some o => exact lv_ifnonnull C.1.1.1 C.1.1.2.1 hdg ht (kt (by simp))
theorem cat_rf (r : Option Nat) : (va_rf r).category = 1 := by cases r <;> rfl
/-- steps: five classes lie in their pool -/
theorem x_giS {v : Int32} (C : xC2 p m c s args Γ cc nL own) (q : xLk own idx ref (TX5 k).2.1 (TX5 k).2.2.1) (hk : k < 5) (hs : ∀ x, s.fieldFound? "ValleyGuides$Step" (TX5 k).2.1 (TX5 k).2.2.1 = some x → s.fieldFound? ref (TX5 k).2.1 (TX5 k).2.2.1 = some x) (hX : xX Γ γ S H) (e1 : xgi S 1 r k = some v) (hdg : decode cc pc = .ok (.getfield idx, 3))
    (kk : W p l e R s m args below meth c H locs cells slots Q (F0 m (pc + 3) ls (.int v :: rest))) : W p l e R s m args below meth c H locs cells slots Q (F0 m pc ls (xv γ 1 r :: rest)) := by
  obtain ⟨o, rfl, ho, rfl⟩ := rb_s e1
  have h5 : xK S 1 o < 5 := hX.2.2.2.2.1 1 o rfl ho
  have key : ∀ t, xK S 1 o = t → t < 5 → xcl S 1 o = 5 + t := by
    intro t h1 h2
    unfold xcl
    rw [h1]
    rcases (show t = 0 ∨ t = 1 ∨ t = 2 ∨ t = 3 ∨ t = 4 by omega) with rfl | rfl | rfl | rfl | rfl <;> rfl
  have hc := key _ rfl h5
  have hk5 : k = 0 ∨ k = 1 ∨ k = 2 ∨ k = 3 ∨ k = 4 := by omega
  rcases (show xK S 1 o = 0 ∨ xK S 1 o = 1 ∨ xK S 1 o = 2 ∨ xK S 1 o = 3 ∨ xK S 1 o = 4 by omega) with h | h | h | h | h <;> rw [h] at hc
  · exact x_get (cx := 5) (TT := TX5) (NN := 5) C hX (by decide) rfl ho hc rfl in_X5 hk q (fun x h => hs x (by rcases hk5 with rfl | rfl | rfl | rfl | rfl <;> exact h)) (by rcases hk5 with rfl | rfl | rfl | rfl | rfl <;> rfl) hdg kk
  · exact x_get (cx := 6) (TT := TX6) (NN := 5) C hX (by decide) rfl ho hc rfl in_X6 hk (by rcases hk5 with rfl | rfl | rfl | rfl | rfl <;> exact q) (fun x h => by rcases hk5 with rfl | rfl | rfl | rfl | rfl <;> exact hs x h) (by rcases hk5 with rfl | rfl | rfl | rfl | rfl <;> rfl) hdg kk
  · exact x_get (cx := 7) (TT := TX7) (NN := 5) C hX (by decide) rfl ho hc rfl in_X7 hk (by rcases hk5 with rfl | rfl | rfl | rfl | rfl <;> exact q) (fun x h => by rcases hk5 with rfl | rfl | rfl | rfl | rfl <;> exact hs x h) (by rcases hk5 with rfl | rfl | rfl | rfl | rfl <;> rfl) hdg kk
  · exact x_get (cx := 8) (TT := TX8) (NN := 5) C hX (by decide) rfl ho hc rfl in_X8 hk (by rcases hk5 with rfl | rfl | rfl | rfl | rfl <;> exact q) (fun x h => by rcases hk5 with rfl | rfl | rfl | rfl | rfl <;> exact hs x h) (by rcases hk5 with rfl | rfl | rfl | rfl | rfl <;> rfl) hdg kk
  · exact x_get (cx := 9) (TT := TX9) (NN := 5) C hX (by decide) rfl ho hc rfl in_X9 hk (by rcases hk5 with rfl | rfl | rfl | rfl | rfl <;> exact q) (fun x h => by rcases hk5 with rfl | rfl | rfl | rfl | rfl <;> exact hs x h) (by rcases hk5 with rfl | rfl | rfl | rfl | rfl <;> rfl) hdg kk
end XROWS2
/-- a contract's start -/
def xU (Γ : xGh) (γ : xMv) (S : xS) (U : State) : Prop := xX Γ γ S U.heap ∧ va_K (yD Γ) xCl (xtl Γ) U ∧ (∀ q, U.heap.size ≤ q → yA Γ q) ∧ xSt Γ U
abbrev xPc (Γ : xGh) (γ : xMv) (S : xS) (As : List Value) : Array Value → State → Prop := va_Pc As (xU Γ γ S)
abbrev xQi (Γ : xGh) (γ : xMv) (r : Int32) (S2 : xS) : Array Value → State → Outcome → State → Prop := va_Qi (fun x (_ : Unit) => x = r) (fun _ t => xX Γ γ S2 t.heap) (yA Γ)
abbrev xQl (Γ : xGh) (γ : xMv) (r : Int64) (S2 : xS) : Array Value → State → Outcome → State → Prop := va_Ql (fun x (_ : Unit) => x = r) (fun _ t => xX Γ γ S2 t.heap) (yA Γ)
abbrev xQv (Γ : xGh) (γ : xMv) (S2 : xS) : Array Value → State → Outcome → State → Prop := va_Qv (fun (_ : Unit) => True) (fun _ t => xX Γ γ S2 t.heap) (yA Γ)
theorem xU_blind {Γ : xGh} {γ : xMv} {S : xS} {As : List Value} : FrameBlind (xPc Γ γ S As) := fun a U g mk q => by
  obtain ⟨q1, q2, q3, q4, q5, q6, q7⟩ := q
  have hv : U.vm.Alike (U.calling g mk a).vm := Vm.Alike.refl U.vm
  refine ⟨q1, q2, va_K.moved (u := U) (U := U.calling g mk a) hv q3, q4, ?_, q6.moved hv, q7.moved hv⟩
  intro w hw hk
  exact va_Nw.same (u := U) (by cases w <;> first | rfl | cases hk) rfl (q5 w hw hk)
section XCALLS
variable {p : Program} {l : Launch} {e : Env} {R : Room} {s : State} {m : MethodId} {args : Array Value} {below : List Frame} {meth : Method} {c : Code} {H : Heap} {locs : List Loc} {cells slots mc ms : Nat} {Q : State → Prop} {Γ : xGh} {γ : xMv} {cc : ByteArray} {nL pc : Nat} {ls : Array Slot} {rest : List Value} {S S2 : xS} {P o k idx cx : Nat} {r : Option Nat} {own ref : String} {CN : String} {TT : u_T} {NN : Nat}
variable {As st0 : List Value} {v : Int32} {vj : Int64} {y : MethodName} {b : ByteArray} {L n : Nat} {rm : Room} {ret : Option FieldType} {wsy : List Cond}
theorem xPre (C : xC2 p m c s args Γ cc nL own) (hX : xX Γ γ S H) (hS : va_S (yA Γ) s.heap H locs) (hp : P < 64) (hkd : xkd P = 1) (ho : o < xcap S P) (hc : xcl S P o = cx) (hcl : xCl[cx]? = some (CN, TT, NN)) : PreV s H CN (ad γ P o) (xPc Γ γ S (.ref (ad γ P o) :: As)) As := by
  obtain ⟨j, hj, hw⟩ := xws_at (Γ := Γ) (xlv_of (γ := γ) hp (by omega) ho)
  rw [xce_obj hp hkd, hc] at hw
  exact ⟨xU_blind, va_recv C.1.2.1 hX.list.1 hcl hw, fun U hU hW => ⟨rfl, by rw [hU]; exact hX, va_K.moved hW.alike C.1.2.1, fun q hq => C.1.2.2 q (Nat.le_trans hS.1 (by rw [← hU]; exact hq)), C.2.step hW hS hU⟩⟩
/-- calls of a method of a pool's object (class CN): an int, a long, nothing comes back -/
theorem x_cvi (C : xC2 p m c s args Γ cc nL own) (hX : xX Γ γ S H) (hS : va_S (yA Γ) s.heap H locs) (hl : ls.size = nL) (hp : P < 64) (hkd : xkd P = 1) (ho : o < xcap S P) (hc : xcl S P o = cx) (hcl : xCl[cx]? = some (CN, TT, NN)) (hM : Met l y wsy rm (xPc Γ γ S (.ref (ad γ P o) :: As)) (xQi Γ γ v S2) mc ms (yA Γ)) (cw : CallW R s args own CN idx y b L ret wsy rm mc ms n) (hn : As.length = n) (hst : st0 = As.reverse ++ .ref (ad γ P o) :: rest) (hW : (rest.map fun v => v.category).sum ≤ 8) (hf : cells + mc ≤ R.cells ∧ slots + ms ≤ R.slots) (hdg : decode cc pc = .ok (.invokevirtual idx, 3))
    (kk : ∀ (H : Heap) (locs : List Loc), xX Γ γ S2 H → va_S (yA Γ) s.heap H locs → W p l e R s m args below meth c H locs (cells + mc) (slots + ms) Q (F0 m (pc + 3) ls (.int v :: rest))) : W p l e R s m args below meth c H locs cells slots Q (F0 m pc ls st0) := by
  refine va_calli (va_runV (rest := rest) C.1.1 hM cw (xPre C hX hS hp hkd ho hc hcl) rfl hn hl hst (lv_room hW) hdg hf) hS (fun q _ h => h) (fun q h => h) (fun x u t H1 locs1 ht hvm hw hB hz hk hS1 => ?_)
  subst hw
  exact kk H1 locs1 (by rw [← ht]; exact hB) hS1
theorem x_cvl (C : xC2 p m c s args Γ cc nL own) (hX : xX Γ γ S H) (hS : va_S (yA Γ) s.heap H locs) (hl : ls.size = nL) (hp : P < 64) (hkd : xkd P = 1) (ho : o < xcap S P) (hc : xcl S P o = cx) (hcl : xCl[cx]? = some (CN, TT, NN)) (hM : Met l y wsy rm (xPc Γ γ S (.ref (ad γ P o) :: As)) (xQl Γ γ vj S2) mc ms (yA Γ)) (cw : CallW R s args own CN idx y b L ret wsy rm mc ms n) (hn : As.length = n) (hst : st0 = As.reverse ++ .ref (ad γ P o) :: rest) (hW : (rest.map fun v => v.category).sum ≤ 8) (hf : cells + mc ≤ R.cells ∧ slots + ms ≤ R.slots) (hdg : decode cc pc = .ok (.invokevirtual idx, 3))
    (kk : ∀ (H : Heap) (locs : List Loc), xX Γ γ S2 H → va_S (yA Γ) s.heap H locs → W p l e R s m args below meth c H locs (cells + mc) (slots + ms) Q (F0 m (pc + 3) ls (.long vj :: rest))) : W p l e R s m args below meth c H locs cells slots Q (F0 m pc ls st0) := by
  refine va_calll (va_runV (rest := rest) C.1.1 hM cw (xPre C hX hS hp hkd ho hc hcl) rfl hn hl hst (lv_room hW) hdg hf) hS (fun q _ h => h) (fun q h => h) (fun x u t H1 locs1 ht hvm hw hB hz hk hS1 => ?_)
  subst hw
  exact kk H1 locs1 (by rw [← ht]; exact hB) hS1
theorem x_cvv (C : xC2 p m c s args Γ cc nL own) (hX : xX Γ γ S H) (hS : va_S (yA Γ) s.heap H locs) (hl : ls.size = nL) (hp : P < 64) (hkd : xkd P = 1) (ho : o < xcap S P) (hc : xcl S P o = cx) (hcl : xCl[cx]? = some (CN, TT, NN)) (hM : Met l y wsy rm (xPc Γ γ S (.ref (ad γ P o) :: As)) (xQv Γ γ S2) mc ms (yA Γ)) (cw : CallW R s args own CN idx y b L ret wsy rm mc ms n) (hn : As.length = n) (hst : st0 = As.reverse ++ .ref (ad γ P o) :: rest) (hW : (rest.map fun v => v.category).sum ≤ 8) (hf : cells + mc ≤ R.cells ∧ slots + ms ≤ R.slots) (hdg : decode cc pc = .ok (.invokevirtual idx, 3))
    (kk : ∀ (H : Heap) (locs : List Loc), xX Γ γ S2 H → va_S (yA Γ) s.heap H locs → W p l e R s m args below meth c H locs (cells + mc) (slots + ms) Q (F0 m (pc + 3) ls rest)) : W p l e R s m args below meth c H locs cells slots Q (F0 m pc ls st0) := by
  refine va_callv (va_runV (rest := rest) C.1.1 hM cw (xPre C hX hS hp hkd ho hc hcl) rfl hn hl hst (lv_room hW) hdg hf) hS (fun q _ h => h) (fun q h => h) (fun u t H1 locs1 ht hvm hw hB hz hk hS1 => ?_)
  exact kk H1 locs1 (by rw [← ht]; exact hB) hS1
theorem xX.kept {Γ : xGh} {γ : xMv} {S : xS} {H H1 : Heap} (h : xX Γ γ S H) (hk : ∀ q : Nat, q < H.size → H1[q]? = H[q]?) : xX Γ γ S H1 := ⟨fun r hr => (h.1 r hr).kept (hk _ (h.1 r hr).lt), h.2⟩
/-- calls of static methods on numbers -/
theorem x_csi (C : xC2 p m c s args Γ cc nL own) (hX : xX Γ γ S H) (hS : va_S (yA Γ) s.heap H locs) (hl : ls.size = nL) (hM : Met l y wsy rm (nPc As) (nQi v) 0 0 (fun _ => False)) (cw : CallB R s args own idx y b L ret wsy rm 0 0 n ∧ (Cond.static y).before args s = true) (hn : As.length = n) (hst : st0 = As.reverse ++ rest) (hW : (rest.map fun v => v.category).sum ≤ 8) (hf : cells ≤ R.cells ∧ slots ≤ R.slots) (hdg : decode cc pc = .ok (.invokestatic idx, 3))
    (kk : ∀ (H : Heap) (locs : List Loc), xX Γ γ S H → va_S (yA Γ) s.heap H locs → W p l e R s m args below meth c H locs cells slots Q (F0 m (pc + 3) ls (.int v :: rest))) : W p l e R s m args below meth c H locs cells slots Q (F0 m pc ls st0) := by
  refine va_calli (va_runS (rest := rest) C.1.1 hM cw n_pre rfl hn hl hst (lv_room hW) hdg hf) hS (fun q _ h => h.elim) (fun q h => h.elim) (fun x u t H1 locs1 ht hvm hw hB hz hk hS1 => ?_)
  subst hw
  exact kk H1 locs1 (hX.kept (fun q hq => hk q hq (fun h => h))) hS1
theorem x_csl (C : xC2 p m c s args Γ cc nL own) (hX : xX Γ γ S H) (hS : va_S (yA Γ) s.heap H locs) (hl : ls.size = nL) (hM : Met l y wsy rm (nPc As) (nQl vj) 0 0 (fun _ => False)) (cw : CallB R s args own idx y b L ret wsy rm 0 0 n ∧ (Cond.static y).before args s = true) (hn : As.length = n) (hst : st0 = As.reverse ++ rest) (hW : (rest.map fun v => v.category).sum ≤ 8) (hf : cells ≤ R.cells ∧ slots ≤ R.slots) (hdg : decode cc pc = .ok (.invokestatic idx, 3))
    (kk : ∀ (H : Heap) (locs : List Loc), xX Γ γ S H → va_S (yA Γ) s.heap H locs → W p l e R s m args below meth c H locs cells slots Q (F0 m (pc + 3) ls (.long vj :: rest))) : W p l e R s m args below meth c H locs cells slots Q (F0 m pc ls st0) := by
  refine va_calll (va_runS (rest := rest) C.1.1 hM cw n_pre rfl hn hl hst (lv_room hW) hdg hf) hS (fun q _ h => h.elim) (fun q h => h.elim) (fun x u t H1 locs1 ht hvm hw hB hz hk hS1 => ?_)
  subst hw
  exact kk H1 locs1 (hX.kept (fun q hq => hk q hq (fun h => h))) hS1
/-! a contract's end and beginning -/
theorem x_ri {v r : Int32} (C : xC2 p m c s args Γ cc nL own) (hret : meth.sig.returnType = some .int) (hlk : meth.locks = false) (hX : xX Γ γ S H) (hS : va_S (yA Γ) s.heap H locs) (e0 : S = S2) (e1 : v = r) (hdg : decode cc pc = .ok (.ireturn, 1)) : W p l e R s m args below meth c H locs mc ms (MQ below (xQi Γ γ r S2) args s mc ms (yA Γ)) (F0 m pc ls [.int v]) := by
  subst e0; subst e1
  exact W.iret (v := v) C.1.1.1 C.1.1.2.1 hret (fun t ht hW => ⟨⟨v, (), rfl, rfl, by subst ht; exact hX⟩, hS.F ht⟩) hS.2.2 hdg
theorem x_rz {v r : Int32} (C : xC2 p m c s args Γ cc nL own) (hret : meth.sig.returnType = some .boolean) (hlk : meth.locks = false) (hX : xX Γ γ S H) (hS : va_S (yA Γ) s.heap H locs) (h01 : v = 0 ∨ v = 1) (e0 : S = S2) (e1 : v = r) (hdg : decode cc pc = .ok (.ireturn, 1)) : W p l e R s m args below meth c H locs mc ms (MQ below (xQi Γ γ r S2) args s mc ms (yA Γ)) (F0 m pc ls [.int v]) := by
  subst e0; subst e1
  exact W.zret (v := v) C.1.1.1 C.1.1.2.1 hret (nz_01 h01) (fun t ht hW => ⟨⟨v, (), rfl, rfl, by subst ht; exact hX⟩, hS.F ht⟩) hS.2.2 hdg
theorem x_rl {v r : Int64} (C : xC2 p m c s args Γ cc nL own) (hret : meth.sig.returnType = some .long) (hlk : meth.locks = false) (hX : xX Γ γ S H) (hS : va_S (yA Γ) s.heap H locs) (e0 : S = S2) (e1 : v = r) (hdg : decode cc pc = .ok (.lreturn, 1)) : W p l e R s m args below meth c H locs mc ms (MQ below (xQl Γ γ r S2) args s mc ms (yA Γ)) (F0 m pc ls [.long v]) := by
  subst e0; subst e1
  exact W.lret (v := v) C.1.1.1 C.1.1.2.1 hret (fun t ht hW => ⟨⟨v, (), rfl, rfl, by subst ht; exact hX⟩, hS.F ht⟩) hS.2.2 hdg
theorem x_rv (C : xC2 p m c s args Γ cc nL own) (hret : meth.sig.returnType = none) (hlk : meth.locks = false) (hX : xX Γ γ S H) (hS : va_S (yA Γ) s.heap H locs) (e0 : S = S2) (hdg : decode cc pc = .ok (.return_, 1)) : W p l e R s m args below meth c H locs mc ms (MQ below (xQv Γ γ S2) args s mc ms (yA Γ)) (F0 m pc ls []) := by
  subst e0
  exact W.vret C.1.1.1 C.1.1.2.1 hret (fun t ht hW => ⟨⟨(), rfl, trivial, by subst ht; exact hX⟩, hS.F ht⟩) hS.2.2 hdg
end XCALLS
theorem x_met {l : Launch} {y : MethodName} {Γ : xGh} {γ : xMv} {S : xS} {As : List Value} {ret : Option FieldType} {L : Nat} {rm : Room} {Qc : Array Value → State → Outcome → State → Prop} {mc ms : Nat} (cc : ByteArray) (own : String) (hy : plainName y.cls = true) (hcls : y.cls = own) (hn : (lg_sl As).length ≤ L)
    (body : ∀ (p : Program) (e : Env) (s : State) (m : MethodId) (args : Array Value) (below : List Frame) (meth : Method) (c : Code), xC2 p m c s args Γ cc L own → meth.sig.returnType = ret → meth.locks = false → ∀ ls : Array Slot, xX Γ γ S s.heap → lv_has ls L (lv_args 0 As) →
      W p l e rm s m args below meth c s.heap [] 0 0 (MQ below Qc args s mc ms (yA Γ)) (F0 m 0 ls [])) : Met l y (ws_ y cc L ret) rm (xPc Γ γ S As) Qc mc ms (yA Γ) := by
  refine Met.ofW (cc := cc) (maxL := L) (ret := ret) hy rfl ?_
  intro p e s m args below meth c s₁ B hml hv
  obtain ⟨rfl, hX, hK, hA, hT⟩ := hv
  have hts := atoms_spec (ws := ws_ y cc L ret) B.pre
  have hts : ∀ w ∈ lw_all, w.before _ s = true := fun w h => hts w (List.mem_cons_of_mem _ h)
  have hown : s.vm.findClass own = some m.cls := by rw [← hcls]; exact findClass_of_methodNamed B.named
  rw [lg_entry_eq]
  exact body p e s m _ below meth c ⟨⟨⟨B.exec, B.bytes, hml, hown, hts⟩, hK, hA⟩, hT⟩ B.returns B.notSynchronized _ hX (lv_entry As hn)
theorem xgc_s {S : xS} {P o v : Nat} (h : xgc S P (some o) = some v) : o < xcap S P := by
  obtain ⟨o2, e, ho, -⟩ := rb_s h
  cases e
  exact ho
section NSTAT
variable {p : Program} {l : Launch} {e : Env} {R : Room} {s : State} {m : MethodId} {args : Array Value} {below : List Frame} {meth : Method} {c : Code} {H : Heap} {locs : List Loc} {cells slots : Nat} {Q : State → Prop} {cc : ByteArray} {nL pc idx : Nat} {ls : Array Slot} {rest As st0 : List Value} {own : String} {y : MethodName} {b : ByteArray} {L n : Nat} {rm : Room} {ret : Option FieldType} {wsy : List Cond}
theorem n_csi {v : Int32} (C : nC p m c s args cc nL own) (hS : va_S (fun _ => False) s.heap H locs) (hl : ls.size = nL) (hM : Met l y wsy rm (nPc As) (nQi v) 0 0 (fun _ => False)) (cw : CallB R s args own idx y b L ret wsy rm 0 0 n ∧ (Cond.static y).before args s = true) (hn : As.length = n) (hst : st0 = As.reverse ++ rest) (hW : (rest.map fun v => v.category).sum ≤ 8) (hf : cells ≤ R.cells ∧ slots ≤ R.slots) (hdg : decode cc pc = .ok (.invokestatic idx, 3))
    (kk : ∀ (H : Heap) (locs : List Loc), va_S (fun _ => False) s.heap H locs → W p l e R s m args below meth c H locs cells slots Q (F0 m (pc + 3) ls (.int v :: rest))) : W p l e R s m args below meth c H locs cells slots Q (F0 m pc ls st0) := by
  refine va_calli (va_runS (rest := rest) C hM cw n_pre rfl hn hl hst (lv_room hW) hdg hf) hS (fun q _ h => h) (fun q h => h) (fun x u t H1 locs1 ht hvm hw hB hz hk hS1 => ?_)
  subst hw
  exact kk H1 locs1 hS1
theorem s_ri {v r : Int32} (hx : p.tables.exec = Jvm.exec) (hb : c.code = cc) (hret : meth.sig.returnType = some .int) (hlk : meth.locks = false) (hS : va_S (fun _ => False) s.heap H locs) (e1 : v = r) (hdg : decode cc pc = .ok (.ireturn, 1)) : W p l e R s m args below meth c H locs 0 0 (MQ below (nQi r) args s 0 0 (fun _ => False)) (F0 m pc ls [.int v]) := by
  subst e1
  exact W.iret (v := v) hx hb hret (fun t ht hW => ⟨⟨v, (), rfl, rfl, trivial⟩, hS.F ht⟩) hS.2.2 hdg
theorem s_rz {v r : Int32} (hx : p.tables.exec = Jvm.exec) (hb : c.code = cc) (hret : meth.sig.returnType = some .boolean) (hlk : meth.locks = false) (hS : va_S (fun _ => False) s.heap H locs) (h01 : v = 0 ∨ v = 1) (e1 : v = r) (hdg : decode cc pc = .ok (.ireturn, 1)) : W p l e R s m args below meth c H locs 0 0 (MQ below (nQi r) args s 0 0 (fun _ => False)) (F0 m pc ls [.int v]) := by
  subst e1
  exact W.zret (v := v) hx hb hret (nz_01 h01) (fun t ht hW => ⟨⟨v, (), rfl, rfl, trivial⟩, hS.F ht⟩) hS.2.2 hdg
theorem s_rl {v r : Int64} (hx : p.tables.exec = Jvm.exec) (hb : c.code = cc) (hret : meth.sig.returnType = some .long) (hlk : meth.locks = false) (hS : va_S (fun _ => False) s.heap H locs) (e1 : v = r) (hdg : decode cc pc = .ok (.lreturn, 1)) : W p l e R s m args below meth c H locs 0 0 (MQ below (nQl r) args s 0 0 (fun _ => False)) (F0 m pc ls [.long v]) := by
  subst e1
  exact W.lret (v := v) hx hb hret (fun t ht hW => ⟨⟨v, (), rfl, rfl, trivial⟩, hS.F ht⟩) hS.2.2 hdg
theorem n_id {x y v : Int32} (hx : p.tables.exec = Jvm.exec) (hb : c.code = cc) (e1 : dI x y = some v) (hdg : decode cc pc = .ok (.idiv, 1))
    (kk : W p l e R s m args below meth c H locs cells slots Q (F0 m (pc + 1) ls (.int v :: rest))) : W p l e R s m args below meth c H locs cells slots Q (F0 m pc ls (.int y :: .int x :: rest)) := by
  obtain ⟨hne, rfl⟩ := dI_s e1
  exact lv_idiv hx hb hdg hne kk
theorem n_ir {x y v : Int32} (hx : p.tables.exec = Jvm.exec) (hb : c.code = cc) (e1 : rI x y = some v) (hdg : decode cc pc = .ok (.irem, 1))
    (kk : W p l e R s m args below meth c H locs cells slots Q (F0 m (pc + 1) ls (.int v :: rest))) : W p l e R s m args below meth c H locs cells slots Q (F0 m pc ls (.int y :: .int x :: rest)) := by
  obtain ⟨hne, rfl⟩ := rI_s e1
  exact lv_irem hx hb hdg hne kk
theorem n_jd {x y v : Int64} (hx : p.tables.exec = Jvm.exec) (hb : c.code = cc) (e1 : dJ x y = some v) (hdg : decode cc pc = .ok (.ldiv, 1))
    (kk : W p l e R s m args below meth c H locs cells slots Q (F0 m (pc + 1) ls (.long v :: rest))) : W p l e R s m args below meth c H locs cells slots Q (F0 m pc ls (.long y :: .long x :: rest)) := by
  obtain ⟨hne, rfl⟩ := dJ_s e1
  exact lv_ldiv hx hb hdg hne kk
theorem n_jr {x y v : Int64} (hx : p.tables.exec = Jvm.exec) (hb : c.code = cc) (e1 : rJ x y = some v) (hdg : decode cc pc = .ok (.lrem, 1))
    (kk : W p l e R s m args below meth c H locs cells slots Q (F0 m (pc + 1) ls (.long v :: rest))) : W p l e R s m args below meth c H locs cells slots Q (F0 m pc ls (.long y :: .long x :: rest)) := by
  obtain ⟨hne, rfl⟩ := rJ_s e1
  exact lv_lrem hx hb hdg hne kk
end NSTAT
