/-! WHAT THE SMALL MACHINE'S STATE SAYS OF THE JVM's: locals, cells -/
section JML
def jm_lr (L : jm_L) (ls : Array Slot) : Prop := ls.size = L.length ∧ lv_wf ls ∧ ∀ (i : Nat) (v : Value), L[i]? = some (some v) → ls[i]? = some (.val v)
def jm_al (L : jm_L) : List (Nat × Value) := (List.range L.length).filterMap (fun i => (jm_get L i).map (fun v => (i, v)))
theorem jm_get_iff {L : jm_L} {i : Nat} {v : Value} : jm_get L i = some v ↔ L[i]? = some (some v) := by
  unfold jm_get
  cases h : L[i]? with
  | none => simp
  | some o => cases o <;> simp
theorem jm_al_mem {L : jm_L} {i : Nat} {v : Value} : (i, v) ∈ jm_al L ↔ L[i]? = some (some v) := by
  unfold jm_al
  rw [List.mem_filterMap]
  constructor
  · rintro ⟨k, hk, e⟩
    cases hg : jm_get L k with
    | none => rw [hg] at e; cases e
    | some w =>
      rw [hg] at e
      cases e
      exact jm_get_iff.mp hg
  · intro h
    refine ⟨i, List.mem_range.mpr (List.getElem?_eq_some_iff.mp h).1, ?_⟩
    rw [jm_get_iff.mpr h]
    rfl
theorem jm_lr.has {L : jm_L} {ls : Array Slot} (h : jm_lr L ls) : lv_has ls L.length (jm_al L) := ⟨h.1, h.2.1, fun q hq => h.2.2 q.1 q.2 (jm_al_mem.mp hq)⟩
theorem jm_lr.of {L' : jm_L} {ls : Array Slot} {n : Nat} {l : List (Nat × Value)} (h : lv_has ls n l) (hn : L'.length = n) (hs : ∀ (i : Nat) (v : Value), L'[i]? = some (some v) → (i, v) ∈ l) : jm_lr L' ls := ⟨by rw [hn]; exact h.1, h.2.1, fun i v e => h.2.2 (i, v) (hs i v e)⟩
theorem jm_lr.get {L : jm_L} {ls : Array Slot} (h : jm_lr L ls) {i : Nat} {v : Value} (e : jm_get L i = some v) : ls[i]? = some (.val v) := h.2.2 i v (jm_get_iff.mp e)
theorem jm_n1_some {o : Option Value} {w : Value} (h : jm_n1 o = some w) : o = some w ∧ w.category = 1 := by
  unfold jm_n1 at h
  cases o with
  | none => cases h
  | some v => cases v <;> simp_all <;> (subst h; rfl)
theorem jm_st1_len : ∀ (L : jm_L) (i : Nat) (v : Value), (jm_st1 L i v).length = L.length
  | [], _, _ => rfl
  | _ :: r, 0, v => rfl
  | o :: r, 1, v => by simp [jm_st1, jm_st1_len r 0 v]
  | o :: r, n + 2, v => by simp [jm_st1, jm_st1_len r (n + 1) v]
theorem jm_st1_get : ∀ (L : jm_L) (i : Nat) (v : Value) (j : Nat) (w : Value), (jm_st1 L i v)[j]? = some (some w) → (j = i ∧ w = v) ∨ (j ≠ i ∧ L[j]? = some (some w) ∧ ¬ (j + 1 = i ∧ w.category = 2))
  | [], _, _, j, w, h => by simp [jm_st1] at h
  | o :: r, 0, v, j, w, h => by
    cases j with
    | zero => simp [jm_st1] at h; exact Or.inl ⟨rfl, h.symm⟩
    | succ j => simp [jm_st1] at h; exact Or.inr ⟨by omega, by simpa using h, by omega⟩
  | o :: r, 1, v, j, w, h => by
    cases j with
    | zero =>
      simp [jm_st1] at h
      obtain ⟨h1, h2⟩ := jm_n1_some h
      exact Or.inr ⟨by omega, by simp [h1], by omega⟩
    | succ j =>
      simp [jm_st1] at h
      rcases jm_st1_get r 0 v j w h with ⟨h1, h2⟩ | ⟨h1, h2, h3⟩
      · exact Or.inl ⟨by omega, h2⟩
      · exact Or.inr ⟨by omega, by simpa using h2, by omega⟩
  | o :: r, n + 2, v, j, w, h => by
    cases j with
    | zero =>
      simp [jm_st1] at h
      exact Or.inr ⟨by omega, by simp [h], by omega⟩
    | succ j =>
      simp [jm_st1] at h
      rcases jm_st1_get r (n + 1) v j w h with ⟨h1, h2⟩ | ⟨h1, h2, h3⟩
      · exact Or.inl ⟨by omega, h2⟩
      · exact Or.inr ⟨by omega, by simpa using h2, fun q => h3 ⟨by omega, q.2⟩⟩
theorem jm_st2_len : ∀ (L : jm_L) (i : Nat) (v : Value), i + 1 < L.length → (jm_st2 L i v).length = L.length
  | [], _, _, h => by simp at h
  | [_], i, _, h => by simp at h
  | _ :: _ :: r, 0, v, _ => rfl
  | o :: p :: r, 1, v, h => by
    have := jm_st2_len (p :: r) 0 v (by simp at h ⊢; omega)
    simp [jm_st2, this]
  | o :: p :: r, n + 2, v, h => by
    have := jm_st2_len (p :: r) (n + 1) v (by simp at h ⊢; omega)
    simp [jm_st2, this]
theorem jm_st2_get : ∀ (L : jm_L) (i : Nat) (v : Value) (j : Nat) (w : Value), i + 1 < L.length → (jm_st2 L i v)[j]? = some (some w) → (j = i ∧ w = v) ∨ (j ≠ i ∧ j ≠ i + 1 ∧ L[j]? = some (some w) ∧ ¬ (j + 1 = i ∧ w.category = 2))
  | [], _, _, _, _, h, _ => by simp at h
  | [_], i, _, _, _, h, _ => by simp at h
  | o :: p :: r, 0, v, j, w, _, h => by
    match j with
    | 0 => simp [jm_st2] at h; exact Or.inl ⟨rfl, h.symm⟩
    | 1 => simp [jm_st2] at h
    | j + 2 => simp [jm_st2] at h; exact Or.inr ⟨by omega, by omega, by simpa using h, by omega⟩
  | o :: p :: r, 1, v, j, w, hi, h => by
    cases j with
    | zero =>
      simp [jm_st2] at h
      obtain ⟨h1, h2⟩ := jm_n1_some h
      exact Or.inr ⟨by omega, by omega, by simp [h1], by omega⟩
    | succ j =>
      simp [jm_st2] at h
      rcases jm_st2_get (p :: r) 0 v j w (by simp at hi ⊢; omega) (by simpa [jm_st2] using h) with ⟨h1, h2⟩ | ⟨h1, h2, h3, h4⟩
      · exact Or.inl ⟨by omega, h2⟩
      · exact Or.inr ⟨by omega, by omega, by simpa using h3, by omega⟩
  | o :: p :: r, n + 2, v, j, w, hi, h => by
    cases j with
    | zero =>
      simp [jm_st2] at h
      exact Or.inr ⟨by omega, by omega, by simp [h], by omega⟩
    | succ j =>
      simp [jm_st2] at h
      rcases jm_st2_get (p :: r) (n + 1) v j w (by simp at hi ⊢; omega) h with ⟨h1, h2⟩ | ⟨h1, h2, h3, h4⟩
      · exact Or.inl ⟨by omega, h2⟩
      · exact Or.inr ⟨by omega, by omega, by simpa using h3, fun q => h4 ⟨by omega, q.2⟩⟩
theorem jm_lr.st1 {L : jm_L} {ls : Array Slot} {n i : Nat} {v : Value} (hn : n = L.length) (h : lv_has ls n ((i, v) :: (jm_al L).filter (fun q => !(q.1 == i) && !(q.1 + 1 == i && q.2.category == 2)))) : jm_lr (jm_st1 L i v) ls := by
  refine jm_lr.of h (by rw [jm_st1_len, hn]) (fun j w e => ?_)
  rcases jm_st1_get L i v j w e with ⟨rfl, rfl⟩ | ⟨h1, h2, h3⟩
  · exact List.mem_cons_self
  · refine List.mem_cons_of_mem _ (List.mem_filter.mpr ⟨jm_al_mem.mpr h2, ?_⟩)
    have n1 : (j == i) = false := by simpa using h1
    have n2 : (j + 1 == i && w.category == 2) = false := by
      by_cases q : j + 1 = i
      · have : ¬ w.category = 2 := fun z => h3 ⟨q, z⟩
        simp [this]
      · simp [q]
    show (!(j == i) && !(j + 1 == i && w.category == 2)) = true
    rw [n1, n2]
    rfl
theorem jm_lr.st2 {L : jm_L} {ls : Array Slot} {n i : Nat} {v : Value} (hn : n = L.length) (hi : i + 1 < L.length) (h : lv_has ls n ((i, v) :: (jm_al L).filter (fun q => !(q.1 == i) && (!(q.1 == i + 1) && !(q.1 + 1 == i && q.2.category == 2))))) : jm_lr (jm_st2 L i v) ls := by
  refine jm_lr.of h (by rw [jm_st2_len L i v hi, hn]) (fun j w e => ?_)
  rcases jm_st2_get L i v j w hi e with ⟨rfl, rfl⟩ | ⟨h1, h1', h2, h3⟩
  · exact List.mem_cons_self
  · refine List.mem_cons_of_mem _ (List.mem_filter.mpr ⟨jm_al_mem.mpr h2, ?_⟩)
    have n1 : (j == i) = false := by simpa using h1
    have n1' : (j == i + 1) = false := by simpa using h1'
    have n2 : (j + 1 == i && w.category == 2) = false := by
      by_cases q : j + 1 = i
      · have : ¬ w.category = 2 := fun z => h3 ⟨q, z⟩
        simp [this]
      · simp [q]
    show (!(j == i) && (!(j == i + 1) && !(j + 1 == i && w.category == 2))) = true
    rw [n1, n1', n2]
    rfl
end JML
section JMR
def jm_tys (dA : Nat → ClassId) : List (ClassId × FieldType) := jm_aty.zipIdx.map (fun q => (dA q.2, q.1))
theorem jm_tys_at {dA : Nat → ClassId} {t : Nat} {ty : FieldType} (h : jm_aty[t]? = some ty) : (jm_tys dA)[t]? = some (dA t, ty) := by
  unfold jm_tys
  rw [List.getElem?_map, List.getElem?_zipIdx, h]
  simp
def jm_ce (D : va_G) (dA : Nat → ClassId) (c : jm_C) (a : Nat) (H : Heap) : Prop := match c with
  | .inl o => (∃ r, jcl[o.1]? = some r ∧ r.2.2 = jm_nf o.1) ∧ t_OB a (D.1 o.1) (jm_nf o.1) (D.2 o.1) H o.2
  | .inr x => x.1 < jm_aty.length ∧ H[a]? = some (vp_cell (dA x.1) x.2)
theorem jm_ce.kept {D : va_G} {dA : Nat → ClassId} {c : jm_C} {a : Nat} {H H1 : Heap} (h : jm_ce D dA c a H) (e : H1[a]? = H[a]?) : jm_ce D dA c a H1 := by
  cases c with
  | inl o => exact ⟨h.1, h.2.kept e⟩
  | inr x => exact ⟨h.1, by rw [e]; exact h.2⟩
theorem jm_ce.lt {D : va_G} {dA : Nat → ClassId} {c : jm_C} {a : Nat} {H : Heap} (h : jm_ce D dA c a H) : a < H.size := by
  cases c with
  | inl o => obtain ⟨-, cell, q, -⟩ := h; exact (Array.getElem?_eq_some_iff.mp q).1
  | inr x => exact (Array.getElem?_eq_some_iff.mp h.2).1
/-- the heap as the small machine has it -/
def jm_rep (D : va_G) (dA : Nat → ClassId) (base : Nat) (G : jm_G) (h : jm_H) (H : Heap) : Prop := h.2.1 = H.size ∧ base ≤ H.size ∧ (∀ (a : Nat) (c : jm_C), h.1 a = some c → base ≤ a ∧ jm_ce D dA c a H) ∧ ∀ (a : Nat) (c : jm_C), G.1 a = some c → a < base ∧ jm_ce D dA c a H
abbrev jm_Aw (base : Nat) : Nat → Prop := fun q => base ≤ q
variable {D : va_G} {dA : Nat → ClassId} {base : Nat} {G : jm_G} {h : jm_H} {H : Heap}
theorem jm_rep.look (R : jm_rep D dA base G h H) {a : Nat} {c : jm_C} (e : jm_look G h a = some c) : jm_ce D dA c a H := by
  unfold jm_look at e
  cases h1 : h.1 a with
  | none => rw [h1] at e; exact (R.2.2.2 a c e).2
  | some c' => rw [h1] at e; cases e; exact (R.2.2.1 a c h1).2
theorem jm_look_w {a : Nat} {c : jm_C} (e : h.1 a = some c) : jm_look G h a = some c := by unfold jm_look; rw [e]
theorem jm_rep.upd (R : jm_rep D dA base G h H) {a : Nat} {c c' : jm_C} {H1 : Heap} (e : h.1 a = some c) (z : H1.size = H.size) (oq : ∀ q, q ≠ a → H1[q]? = H[q]?) (hc : jm_ce D dA c' a H1) : jm_rep D dA base G (jm_upd h a c') H1 := by
  obtain ⟨r1, r2, r3, r4⟩ := R
  refine ⟨r1.trans z.symm, by omega, fun b d hb => ?_, fun b d hb => ?_⟩
  · simp only [jm_upd] at hb
    by_cases q : b = a
    · subst q
      rw [if_pos rfl] at hb
      cases hb
      exact ⟨(r3 b c e).1, hc⟩
    · rw [if_neg q] at hb
      exact ⟨(r3 b d hb).1, (r3 b d hb).2.kept (oq b q)⟩
  · have h1 := r4 b d hb
    have h2 := (r3 a c e).1
    exact ⟨h1.1, h1.2.kept (oq b (by omega))⟩
theorem jm_rep.alloc (R : jm_rep D dA base G h H) {c' : jm_C} {n : Nat} {H1 : Heap} (z : H1.size = H.size + 1) (oq : ∀ q, q < H.size → H1[q]? = H[q]?) (hc : jm_ce D dA c' H.size H1) : jm_rep D dA base G (jm_alloc h c' n) H1 := by
  obtain ⟨r1, r2, r3, r4⟩ := R
  refine ⟨by show h.2.1 + 1 = _; omega, by omega, fun b d hb => ?_, fun b d hb => ?_⟩
  · simp only [jm_alloc] at hb
    by_cases q : b = h.2.1
    · subst q
      rw [if_pos rfl] at hb
      cases hb
      exact ⟨by omega, by rw [r1]; exact hc⟩
    · rw [if_neg q] at hb
      exact ⟨(r3 b d hb).1, (r3 b d hb).2.kept (oq b (r3 b d hb).2.lt)⟩
  · have h1 := r4 b d hb
    exact ⟨h1.1, h1.2.kept (oq b h1.2.lt)⟩
theorem jm_S.alloc {A : Nat → Prop} {H0 H H1 : Heap} {locs : List Loc} (hS : va_S A H0 H locs) (z : H1.size = H.size + 1) (oq : ∀ q, q < H.size → H1[q]? = H[q]?) : va_S A H0 H1 locs := ⟨Nat.le_trans hS.1 (by omega), fun x h1 h2 => (oq x (Nat.lt_of_lt_of_le h1 hS.1)).trans (hS.2.1 x h1 h2), hS.2.2⟩
end JMR
