/-! X makes objects and arrays: a pool grows by one -/
theorem xX.grow {Γ : xGh} {γ γ' : xMv} {S S' : xS} {H H1 : Heap} {q : Nat} {e : va_E} {r0 : Nat × Nat} (hX : xX Γ γ S H) (hP1 : va_P (yD Γ) xCl (xws Γ γ S ++ [(q, e)]) H1) (hD1 : va_D (yA Γ) (xws Γ γ S ++ [(q, e)])) (hlv : ∀ r, xlv γ' S' r ↔ xlv γ S r ∨ r = r0) (hnot : ¬ xlv γ S r0) (h0 : ad γ' r0.1 r0.2 = q) (had : ∀ r, xlv γ S r → ad γ' r.1 r.2 = ad γ r.1 r.2) (he0 : xce Γ γ' S' r0 = e) (heq : ∀ r, xlv γ S r → xce Γ γ' S' r = xce Γ γ S r) (hT : ∀ p o, xkd p = 9 → (xT S' p o).length ≤ cp γ' p o) (htg : xtg S') (hcd : xcd S') (hcn : ∀ p, xN S' p = cn γ' p) : xX Γ γ' S' H1 := by
  have key : ∀ r, xlv γ' S' r → ∃ j : Nat, (xws Γ γ S ++ [(q, e)])[j]? = some (ad γ' r.1 r.2, xce Γ γ' S' r) ∧ ((∃ hl : xlv γ S r, (xro γ S)[j]? = some r) ∨ (r = r0 ∧ j = (xws Γ γ S).length)) := by
    intro r h
    rcases (hlv r).mp h with h | h
    · obtain ⟨j, hj, hw⟩ := xws_at (Γ := Γ) h
      exact ⟨j, by rw [List.getElem?_append_left (List.getElem?_eq_some_iff.mp hw).1, hw, had r h, heq r h], Or.inl ⟨h, hj⟩⟩
    · subst h
      exact ⟨(xws Γ γ S).length, by rw [List.getElem?_append_right (Nat.le_refl _), Nat.sub_self, h0, he0]; rfl, Or.inr ⟨rfl, rfl⟩⟩
  refine ⟨fun r h => ?_, fun a b ha hb hab => ?_, ⟨fun r h => ?_, hcn⟩, hT, htg, hcd⟩
  · obtain ⟨j, hj, -⟩ := key r h
    exact hP1 j _ hj
  · obtain ⟨i, hi, hi2⟩ := key a ha
    obtain ⟨j, hj, hj2⟩ := key b hb
    have hij := hD1.1 i j _ _ hi hj hab
    subst hij
    rcases hi2 with ⟨h1, h2⟩ | ⟨h1, h2⟩ <;> rcases hj2 with ⟨h3, h4⟩ | ⟨h3, h4⟩
    · exact Option.some.inj (h2.symm.trans h4)
    · have := (List.getElem?_eq_some_iff.mp h2).1
      unfold xws at h4
      rw [List.length_map] at h4
      omega
    · have := (List.getElem?_eq_some_iff.mp h4).1
      unfold xws at h2
      rw [List.length_map] at h2
      omega
    · rw [h1, h3]
  · obtain ⟨j, hj, -⟩ := key r h
    exact hD1.2 j _ hj
theorem xfk_ok : ∀ c k, (xfk c k).1 ≠ 0 → (xfk c k).1 ≠ 1 → (xfk c k).1 ≠ 2 → xcntT.getD (xfk c k).2.1 0 ≠ 0 := by
  have h : xfkT.all (fun l => l.all (fun q => q.1 == 0 || q.1 == 1 || q.1 == 2 || xcntT.getD q.2.1 0 != 0)) = true := by decide +kernel
  intro c k h0 h1 h2
  unfold xfk at h0 h1 h2 ⊢
  cases hl : xfkT[c]? with
  | none => rw [List.getD_eq_getElem?_getD (l := xfkT), hl] at h0; simp at h0
  | some l =>
    rw [List.getD_eq_getElem?_getD (l := xfkT), hl] at h0 h1 h2 ⊢
    simp only [Option.getD_some] at h0 h1 h2 ⊢
    cases hk : l[k]? with
    | none => rw [List.getD_eq_getElem?_getD (l := l), hk] at h0; simp at h0
    | some q =>
      rw [List.getD_eq_getElem?_getD (l := l), hk] at h0 h1 h2 ⊢
      simp only [Option.getD_some] at h0 h1 h2 ⊢
      have h3 := List.all_eq_true.mp (List.all_eq_true.mp h l (List.mem_of_getElem? hl)) q (List.mem_of_getElem? hk)
      simp [h0, h1, h2] at h3
      simpa using h3
theorem xec_ok : ∀ p, xecT.getD p 0 = 1 → xcntT.getD (xep p) 0 ≠ 0 := by
  have h : (List.range 64).all (fun p => xecT.getD p 0 != 1 || xcntT.getD (xep p) 0 != 0) = true := by decide +kernel
  intro p hp
  rcases Nat.lt_or_ge p 64 with q | q
  · have h3 := List.all_eq_true.mp h p (List.mem_range.mpr q)
    rw [hp] at h3
    simpa using h3
  · have e : xecT[p]? = none := List.getElem?_eq_none q
    rw [List.getD_eq_getElem?_getD, e] at hp
    simp at hp
/-- an old cell reads the same under the grown addresses -/
theorem xce_gr {Γ : xGh} {γ γ' : xMv} {S S' : xS} {r : Nat × Nat} (hr : xlv γ S r) (hcd : xcd S) (hK : xK S' r.1 r.2 = xK S r.1 r.2) (hL : xL S' r.1 r.2 = xL S r.1 r.2) (hI : xI S' r.1 r.2 = xI S r.1 r.2) (hJ : xJ S' r.1 r.2 = xJ S r.1 r.2) (hF : xF S' r.1 r.2 = xF S r.1 r.2) (hR : xR S' r.1 r.2 = xR S r.1 r.2) (hT : xT S' r.1 r.2 = xT S r.1 r.2) (hT2 : 100 ≤ r.1 → xT S' (r.1 - 100) r.2 = xT S (r.1 - 100) r.2)
    (hc1 : cp γ' r.1 r.2 = cp γ r.1 r.2) (hc2 : 100 ≤ r.1 → cp γ' (r.1 - 100) r.2 = cp γ (r.1 - 100) r.2) (hm : mdc γ' r.1 r.2 = mdc γ r.1 r.2) (hg : gb γ' = gb γ) (had : ∀ p o, (o < xcap S p ∨ xcntT.getD p 0 ≠ 0 ∨ 64 ≤ p) → ad γ' p o = ad γ p o) : xce Γ γ' S' r = xce Γ γ S r := by
  have h1 : xce Γ γ' S' r = xce Γ γ' S r := by
    exact xce_eq hK hL hI hJ hF hR hT hT2
  rw [h1]
  unfold xlv at hr
  unfold xce
  by_cases h : 100 ≤ r.1
  · rw [if_pos h] at hr
    rw [if_pos h, if_pos h, hc2 h]
    have e : xdt γ' S (r.1 - 100) r.2 = xdt γ S (r.1 - 100) r.2 := by
      funext j
      unfold xdt
      cases hj : (xT S (r.1 - 100) r.2)[j]? with
      | none => simp only [hg]
      | some x => simp only; rw [had _ _ (Or.inl (hcd.2.2 _ _ x hr.2.1 hr.2.2.1 (List.mem_of_getElem? hj)))]
    rw [e]
  · rw [if_neg h] at hr
    rw [if_neg h, if_neg h]
    by_cases h9 : xkd r.1 = 9
    · rw [if_pos h9, if_pos h9, hm, hc1, had (100 + r.1) r.2 (Or.inr (Or.inr (by omega)))]
    · rw [if_neg h9, if_neg h9]
      by_cases hk1 : xkd r.1 = 1
      · rw [if_pos hk1, if_pos hk1]
        have e1 : xfv γ' S (xcl S r.1 r.2) r.1 r.2 = xfv γ S (xcl S r.1 r.2) r.1 r.2 := by
          funext k
          unfold xfv
          by_cases z0 : (xfk (xcl S r.1 r.2) k).1 = 0
          · rw [if_pos z0, if_pos z0]
          · rw [if_neg z0, if_neg z0]
            by_cases z1 : (xfk (xcl S r.1 r.2) k).1 = 1
            · rw [if_pos z1, if_pos z1]
            · rw [if_neg z1, if_neg z1]
              by_cases z2 : (xfk (xcl S r.1 r.2) k).1 = 2
              · rw [if_pos z2, if_pos z2]
                cases hv : xR S r.1 r.2 k with
                | none => rfl
                | some v => simp only [Option.map_some]; rw [had _ _ (Or.inl (hcd.1 _ _ k v hk1 hr.2.2 z2 hv))]
              · rw [if_neg z2, if_neg z2, had _ _ (Or.inr (Or.inl (xfk_ok _ _ z0 z1 z2)))]
        unfold xfs
        rw [e1]
      · rw [if_neg hk1, if_neg hk1]
        by_cases h8 : xak S r.1 r.2 = 8
        · have hk8 : xkd r.1 = 8 := by
            unfold xak at h8
            by_cases z : xkd r.1 = 10
            · rw [if_pos z] at h8
              by_cases z1 : xK S r.1 r.2 = 0
              · rw [if_pos z1] at h8; omega
              · rw [if_neg z1] at h8
                by_cases z2 : xK S r.1 r.2 = 1
                · rw [if_pos z2] at h8; omega
                · rw [if_neg z2] at h8; omega
            · rw [if_neg z] at h8; exact h8
          have e1 : xel γ' S r.1 r.2 = xel γ S r.1 r.2 := by
            unfold xel
            by_cases z : xecT.getD r.1 0 = 1
            · rw [if_pos z, if_pos z]
              funext j
              rw [had _ _ (Or.inr (Or.inl (xec_ok _ z)))]
            · rw [if_neg z, if_neg z]
              funext j
              cases hv : xR S r.1 r.2 j with
              | none => rfl
              | some v => simp only [Option.map_some]; rw [had _ _ (Or.inl (hcd.2.1 _ _ j v hk8 hr.2.2 z hv))]
          rw [e1]
        · simp only [if_neg h8]
def xnw (S : xS) (P tag len : Nat) : xS := (fun p => if p = P then S.1 P + 1 else S.1 p, u2 S.2.1 P (S.1 P) tag, u2 S.2.2.1 P (S.1 P) len, u2 S.2.2.2.1 P (S.1 P) (fun _ => 0), u2 S.2.2.2.2.1 P (S.1 P) (fun _ => 0), u2 S.2.2.2.2.2.1 P (S.1 P) (fun _ => 0), u2 S.2.2.2.2.2.2.1 P (S.1 P) (fun _ => none), u2 S.2.2.2.2.2.2.2 P (S.1 P) [])
def gnw (γ : xMv) (P n q : Nat) : xMv := (u2 (ad γ) P n q, u2 (cp γ) P n 0, u2 (mdc γ) P n 0, gb γ, fun p => if p = P then cn γ P + 1 else cn γ p)
theorem xnw_N {S : xS} {P t l p : Nat} : xN (xnw S P t l) p = if p = P then xN S P + 1 else xN S p := rfl
theorem xcap_N {S : xS} {P : Nat} (hc : xcntT.getD P 0 = 0) : xcap S P = xN S P := by unfold xcap; rw [if_pos hc]
theorem xnw_cap {S : xS} {P t l p : Nat} (hc : xcntT.getD P 0 = 0) : xcap (xnw S P t l) p = if p = P then xcap S P + 1 else xcap S p := by
  by_cases h : p = P
  · subst h
    rw [if_pos rfl, xcap_N hc, xcap_N hc, xnw_N, if_pos rfl]
  · rw [if_neg h]
    unfold xcap
    rw [xnw_N, if_neg h]
theorem xnw_K {S : xS} {P t l : Nat} : xK (xnw S P t l) P (xN S P) = t := u2_s
theorem xnw_L {S : xS} {P t l : Nat} : xL (xnw S P t l) P (xN S P) = l := u2_s
theorem xnw_I {S : xS} {P t l : Nat} : xI (xnw S P t l) P (xN S P) = fun _ => 0 := u2_s
theorem xnw_J {S : xS} {P t l : Nat} : xJ (xnw S P t l) P (xN S P) = fun _ => 0 := u2_s
theorem xnw_F {S : xS} {P t l : Nat} : xF (xnw S P t l) P (xN S P) = fun _ => 0 := u2_s
theorem xnw_R {S : xS} {P t l : Nat} : xR (xnw S P t l) P (xN S P) = fun _ => none := u2_s
theorem xnw_T {S : xS} {P t l : Nat} : xT (xnw S P t l) P (xN S P) = [] := u2_s
/-- the world with one more, of a pool that grows; e: what was made -/
theorem xX.new {Γ : xGh} {γ : xMv} {S : xS} {H H1 : Heap} {q P tag len : Nat} {e : va_E} (hX : xX Γ γ S H) (hp : P < 64) (hk0 : xkd P ≠ 0) (hcn : xcntT.getD P 0 = 0) (htag : xkd P = 1 → tag < (xclT.getD P []).length) (hP1 : va_P (yD Γ) xCl (xws Γ γ S ++ [(q, e)]) H1) (hD1 : va_D (yA Γ) (xws Γ γ S ++ [(q, e)])) (he : xce Γ (gnw γ P (xN S P) q) (xnw S P tag len) (P, xN S P) = e) : xX Γ (gnw γ P (xN S P) q) (xnw S P tag len) H1 := by
  have hcap := xcap_N (S := S) hcn
  have hnot : ¬ xlv γ S (P, xN S P) := by
    unfold xlv
    rw [if_neg (by show ¬ 100 ≤ P; omega)]
    intro h
    have := h.2.2
    simp only at this
    omega
  have hne : ∀ r, xlv γ S r → ¬ (r.1 = P ∧ r.2 = xN S P) := fun r h h2 => hnot (by have : r = (P, xN S P) := Prod.ext h2.1 h2.2; rw [← this]; exact h)
  have hne2 : ∀ r, xlv γ S r → 100 ≤ r.1 → ¬ (r.1 - 100 = P ∧ r.2 = xN S P) := fun r h h1 h2 => by
    unfold xlv at h
    rw [if_pos h1] at h
    have := h.2.2.1
    rw [h2.1, h2.2] at this
    omega
  refine hX.grow (r0 := (P, xN S P)) hP1 hD1 (fun r => ?_) hnot u2_s (fun r h => u2_n (hne r h)) he (fun r h => ?_) (fun p o h9 => ?_) (fun p o h1 h2 => ?_) ?_ (fun p => ?_)
  · constructor
    · intro h
      unfold xlv at h ⊢
      by_cases h1 : 100 ≤ r.1
      · rw [if_pos h1] at h ⊢
        by_cases h2 : r.1 - 100 = P ∧ r.2 = xN S P
        · have h3 := h.2.2.2
          rw [show cp (gnw γ P (xN S P) q) (r.1 - 100) r.2 = 0 by rw [h2.1, h2.2]; exact u2_s] at h3
          omega
        · have h3 := h.2.2.2
          rw [show cp (gnw γ P (xN S P) q) (r.1 - 100) r.2 = cp γ (r.1 - 100) r.2 from u2_n h2] at h3
          refine Or.inl ⟨h.1, h.2.1, ?_, h3⟩
          have h4 := h.2.2.1
          rw [xnw_cap hcn] at h4
          by_cases h5 : r.1 - 100 = P
          · rw [if_pos h5] at h4
            rw [h5]
            have : r.2 ≠ xN S P := fun z => h2 ⟨h5, z⟩
            omega
          · rw [if_neg h5] at h4; exact h4
      · rw [if_neg h1] at h ⊢
        by_cases h2 : r.1 = P ∧ r.2 = xN S P
        · exact Or.inr (Prod.ext h2.1 h2.2)
        · refine Or.inl ⟨h.1, h.2.1, ?_⟩
          have h4 := h.2.2
          rw [xnw_cap hcn] at h4
          by_cases h5 : r.1 = P
          · rw [if_pos h5] at h4
            rw [h5]
            have : r.2 ≠ xN S P := fun z => h2 ⟨h5, z⟩
            omega
          · rw [if_neg h5] at h4; exact h4
    · intro h
      rcases h with h | h
      · have hn2 := hne2 r h
        unfold xlv at h ⊢
        by_cases h1 : 100 ≤ r.1
        · rw [if_pos h1] at h ⊢
          refine ⟨h.1, h.2.1, ?_, ?_⟩
          · rw [xnw_cap hcn]
            by_cases h5 : r.1 - 100 = P
            · rw [if_pos h5]; have := h.2.2.1; rw [h5] at this; omega
            · rw [if_neg h5]; exact h.2.2.1
          · rw [show cp (gnw γ P (xN S P) q) (r.1 - 100) r.2 = cp γ (r.1 - 100) r.2 from u2_n (hn2 h1)]
            exact h.2.2.2
        · rw [if_neg h1] at h ⊢
          refine ⟨h.1, h.2.1, ?_⟩
          rw [xnw_cap hcn]
          by_cases h5 : r.1 = P
          · rw [if_pos h5]; have := h.2.2; rw [h5] at this; omega
          · rw [if_neg h5]; exact h.2.2
      · subst h
        unfold xlv
        rw [if_neg (by show ¬ 100 ≤ P; omega)]
        exact ⟨hp, hk0, by show xN S P < xcap _ P; rw [xnw_cap hcn, if_pos rfl]; omega⟩
  · refine xce_gr h hX.2.2.2.2.2 (u2_n (hne r h)) (u2_n (hne r h)) (u2_n (hne r h)) (u2_n (hne r h)) (u2_n (hne r h)) (u2_n (hne r h)) (u2_n (hne r h)) (fun h1 => u2_n (hne2 r h h1)) (u2_n (hne r h)) (fun h1 => u2_n (hne2 r h h1)) (u2_n (hne r h)) rfl (fun p o hpo => u2_n (fun z => ?_))
    rcases hpo with w | w | w
    · rw [z.1, z.2, hcap] at w; omega
    · rw [z.1] at w; exact w hcn
    · omega
  · by_cases h2 : p = P ∧ o = xN S P
    · rw [h2.1, h2.2, xnw_T]
      exact Nat.zero_le _
    · rw [show xT (xnw S P tag len) p o = xT S p o from u2_n h2, show cp (gnw γ P (xN S P) q) p o = cp γ p o from u2_n h2]
      exact hX.2.2.2.1 p o h9
  · by_cases h3 : p = P ∧ o = xN S P
    · rw [h3.1, h3.2, xnw_K]
      exact htag (by rw [← h3.1]; exact h1)
    · rw [show xK (xnw S P tag len) p o = xK S p o from u2_n h3]
      rw [xnw_cap hcn] at h2
      by_cases h5 : p = P
      · rw [if_pos h5] at h2
        have : o ≠ xN S P := fun z => h3 ⟨h5, z⟩
        refine hX.2.2.2.2.1 p o h1 ?_
        rw [h5]; omega
      · rw [if_neg h5] at h2
        exact hX.2.2.2.2.1 p o h1 h2
  · have hmono : ∀ p o, o < xcap S p → o < xcap (xnw S P tag len) p := fun p o h => by
      rw [xnw_cap hcn]
      by_cases h5 : p = P
      · rw [if_pos h5]; rw [h5] at h; omega
      · rw [if_neg h5]; exact h
    have hold : ∀ p o, o < xcap (xnw S P tag len) p → ¬ (p = P ∧ o = xN S P) → o < xcap S p := fun p o h h3 => by
      rw [xnw_cap hcn] at h
      by_cases h5 : p = P
      · rw [if_pos h5] at h
        have : o ≠ xN S P := fun z => h3 ⟨h5, z⟩
        rw [h5]; omega
      · rw [if_neg h5] at h; exact h
    refine ⟨fun p o k v a b c d => ?_, fun p o k v a b c d => ?_, fun p o x a b c => ?_⟩
    · by_cases h3 : p = P ∧ o = xN S P
      · rw [h3.1, h3.2, xnw_R] at d; cases d
      · rw [show xR (xnw S P tag len) p o = xR S p o from u2_n h3] at d
        have e : xcl (xnw S P tag len) p o = xcl S p o := by unfold xcl; rw [show xK (xnw S P tag len) p o = xK S p o from u2_n h3]
        rw [e] at c ⊢
        exact hmono _ _ (hX.2.2.2.2.2.1 p o k v a (hold p o b h3) c d)
    · by_cases h3 : p = P ∧ o = xN S P
      · rw [h3.1, h3.2, xnw_R] at d; cases d
      · rw [show xR (xnw S P tag len) p o = xR S p o from u2_n h3] at d
        exact hmono _ _ (hX.2.2.2.2.2.2.1 p o k v a (hold p o b h3) c d)
    · by_cases h3 : p = P ∧ o = xN S P
      · rw [h3.1, h3.2, xnw_T] at c; cases c
      · rw [show xT (xnw S P tag len) p o = xT S p o from u2_n h3] at c
        exact hmono _ _ (hX.2.2.2.2.2.2.2 p o x a (hold p o b h3) c)
  · rw [xnw_N]
    show _ = if p = P then cn γ P + 1 else cn γ p
    rw [← hX.2.2.1.2, ← hX.2.2.1.2]
