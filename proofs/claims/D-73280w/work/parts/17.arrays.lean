/-! ARRAYS, CONSTANTS, MAKING, CASTS (printed by gen/arrays.py) -/
/-- a kind of cells whose things may be taken for things of class nm -/
def jm_kc (kd : Nat) (nm : String) : Prop := (∃ (ci : Nat) (C : String) (T : u_T) (N : Nat), kd = 2 * ci ∧ jcl[ci]? = some (C, T, N) ∧ (C = nm ∨ (Jvm.Cond.castable C nm) ∈ lw_tbl)) ∨ ∃ (t : Nat) (ty : FieldType), kd = 2 * t + 1 ∧ jm_aty[t]? = some ty ∧ (Jvm.Cond.castable ("[" ++ ty.toString) nm) ∈ lw_tbl
def jm_Vq : Prop := ∀ t k, jm_asg t k = true → ∃ E, jm_aty[t]? = some (.object E) ∧ (k = 0 ∨ ∃ kd, k = kd + 1 ∧ jm_kc kd E)
theorem jm_P1 {D : va_G} {cA : ClassId} {x : vp_A} {a : Nat} {H : Heap} (h : H[a]? = some (vp_cell cA x)) : va_P D jcl [(a, .inl (cA, x))] H := by
  intro k q hq
  cases k with
  | zero => cases hq; exact h
  | succ k => simp at hq
theorem jm_RA {t : FieldType} {U : State} {cA : ClassId} (h : va_RA U cA t) : U.vm.findClass ("[" ++ t.toString) = some cA := by
  cases t with
  | object C => obtain ⟨kA, comp, -, -, -, h4⟩ := h; exact h4
  | _ => exact h
theorem jm_cls {s : State} {H : Heap} {D : va_G} {dA : Nat → ClassId} {G : jm_G} {c : jm_C} {a : Nat} {nm : String} (K : jm_K D dA G s) (hc : jm_ce D dA c a H) (hk : jm_kc (jm_kd c) nm) : va_Any nm s H a := by
  rcases hk with ⟨ci, C, T, N, hkd, hcl, hcast⟩ | ⟨t, ty, hkd, hty, hcast⟩
  · cases c with
    | inr x => simp [jm_kd] at hkd; omega
    | inl o =>
      have : o.1 = ci := by simp [jm_kd] at hkd; omega
      subst this
      obtain ⟨-, cell, q1, q2, q3, -⟩ := hc
      obtain ⟨-, hca⟩ := K.1.1 _ _ hcl
      have hca0 := hca
      obtain ⟨hfc, kC, hkC, hkind⟩ := hca
      refine ⟨cell, q1, by rw [q3]; rfl, ⟨kC, by rw [q2]; exact hkC⟩, fun comp hcomp => ?_⟩
      rw [q2]
      rcases hcast with rfl | hw
      · cases hfc.symm.trans hcomp
        exact va_assign hca0
      · obtain ⟨c3, c4, h3, h4, hasg⟩ := Cond.castable_spec (va_Nw.use (A := #[]) rfl (K.2.1 _ hw rfl))
        cases hfc.symm.trans h3
        cases hcomp.symm.trans h4
        exact hasg
  · cases c with
    | inl o => simp [jm_kd] at hkd; omega
    | inr x =>
      have : x.1 = t := by simp [jm_kd] at hkd; omega
      subst this
      obtain ⟨-, q1⟩ := hc
      have hra := (K.1.2 x.1 _ (jm_tys_at hty)).2
      have hfc := jm_RA hra
      obtain ⟨kC, hkC, -⟩ := Vm.findClass_spec hfc
      have hvm : (vp_cell (dA x.1) x.2).vm = .none := by
        obtain ⟨n, f⟩ := x.2
        rcases f with f | f | f | f | f <;> rfl
      have hcls : (vp_cell (dA x.1) x.2).cls = dA x.1 := by
        obtain ⟨n, f⟩ := x.2
        rcases f with f | f | f | f | f <;> rfl
      refine ⟨_, q1, by rw [hvm]; rfl, ⟨kC, by rw [hcls]; exact hkC⟩, fun comp hcomp => ?_⟩
      rw [hcls]
      obtain ⟨c3, c4, h3, h4, hasg⟩ := Cond.castable_spec (va_Nw.use (A := #[]) rfl (K.2.1 _ hcast rfl))
      cases hfc.symm.trans h3
      cases hcomp.symm.trans h4
      exact hasg
theorem jm_upi {α : Type} {g : α → Value} (f : Nat → α) (i : Int32) (v : α) : updV (fun j => g (f j)) i.toNatClampNeg (g v) = fun j => g (jm_up f i.toInt.toNat v j) := by
  funext q
  show (if q = i.toInt.toNat then g v else g (f q)) = g (if q = i.toInt.toNat then v else f q)
  by_cases hq : q = i.toInt.toNat
  · rw [if_pos hq, if_pos hq]
  · rw [if_neg hq, if_neg hq]
theorem jm_aty_ref : ∀ (t : Nat) (ty : FieldType), jm_aty[t]? = some ty → 5 ≤ t → ty.isReference = true := by
  intro t ty h h5
  have hl : t < jm_aty.length := (List.getElem?_eq_some_iff.mp h).1
  have : ∀ k, k < jm_aty.length → 5 ≤ k → (jm_aty[k]?.map FieldType.isReference) = some true := by decide +kernel
  have h2 := this t hl h5
  rw [h] at h2
  exact Option.some.inj h2
section JMA
variable {p : Program} {l : Launch} {e : Env} {R : Room} {s : State} {m : MethodId} {args : Array Value} {below : List Frame} {meth : Method} {c : Code} {Q : State → Prop} {D : va_G} {dA : Nat → ClassId} {base : Nat} {G : jm_G} {c0 mi pc pc' len fa : Nat} {T : jm_T} {L L' : jm_L} {st st' : List Value} {h h' : jm_H}

theorem jm_w_iaload (X : jm_cx p s m args meth c mi) (K : jm_K D dA G s) (hd : decode (jm_code mi) pc = .ok (.iaload, len)) (hl : jm_lok (.iaload) len = true) (he : jm_ex T G fa pc len (.iaload) L st h = some (.inl (pc', L', st', h'))) (k : jm_Wf p l e R s m args below meth c Q D dA base G c0 mi pc' L' st' h') : jm_Wf p l e R s m args below meth c Q D dA base G c0 mi pc L st h := by
  have hn := eq_of_beq hl
  subst hn
  intro H locs ls hR hS hL hl0 hc0
  dsimp only [jm_ex] at he
  split at he
  · obtain ⟨v, hv, rfl, rfl, rfl, rfl⟩ := jm_push_inl he
    rename_i i a r
    rw [Option.map_eq_some_iff] at hv
    obtain ⟨y, hv, rfl⟩ := hv
    unfold jm_ai at hv
    split at hv
    · rename_i t n f ho
      split at hv
      · rename_i ht
        split at hv
        · rename_i hin
          cases hv
          have hce := hR.look ho
          obtain ⟨-, q1⟩ := hce
          simp at ht
          subst ht
          exact va_iald X.1 X.2.1 K.1 (jm_P1 q1) 0 0 rfl (jm_tys_at rfl) (jm_vpin hin) hd (k H locs ls hR hS hL hl0 hc0)
        · cases hv
      · cases hv
    · cases hv
  · cases he
theorem jm_w_baload (X : jm_cx p s m args meth c mi) (K : jm_K D dA G s) (hd : decode (jm_code mi) pc = .ok (.baload, len)) (hl : jm_lok (.baload) len = true) (he : jm_ex T G fa pc len (.baload) L st h = some (.inl (pc', L', st', h'))) (k : jm_Wf p l e R s m args below meth c Q D dA base G c0 mi pc' L' st' h') : jm_Wf p l e R s m args below meth c Q D dA base G c0 mi pc L st h := by
  have hn := eq_of_beq hl
  subst hn
  intro H locs ls hR hS hL hl0 hc0
  dsimp only [jm_ex] at he
  split at he
  · obtain ⟨v, hv, rfl, rfl, rfl, rfl⟩ := jm_push_inl he
    rename_i i a r
    rw [Option.map_eq_some_iff] at hv
    obtain ⟨y, hv, rfl⟩ := hv
    unfold jm_ai at hv
    split at hv
    · rename_i t n f ho
      split at hv
      · rename_i ht
        split at hv
        · rename_i hin
          cases hv
          have hce := hR.look ho
          obtain ⟨-, q1⟩ := hce
          simp at ht
          rcases ht with rfl | rfl
          · exact va_bald X.1 X.2.1 K.1 (jm_P1 q1) 0 1 rfl (jm_tys_at rfl) (jm_vpin hin) hd (k H locs ls hR hS hL hl0 hc0)
          · exact va_zald X.1 X.2.1 K.1 (jm_P1 q1) 0 3 rfl (jm_tys_at rfl) (jm_vpin hin) hd (k H locs ls hR hS hL hl0 hc0)
        · cases hv
      · cases hv
    · cases hv
  · cases he
theorem jm_w_caload (X : jm_cx p s m args meth c mi) (K : jm_K D dA G s) (hd : decode (jm_code mi) pc = .ok (.caload, len)) (hl : jm_lok (.caload) len = true) (he : jm_ex T G fa pc len (.caload) L st h = some (.inl (pc', L', st', h'))) (k : jm_Wf p l e R s m args below meth c Q D dA base G c0 mi pc' L' st' h') : jm_Wf p l e R s m args below meth c Q D dA base G c0 mi pc L st h := by
  have hn := eq_of_beq hl
  subst hn
  intro H locs ls hR hS hL hl0 hc0
  dsimp only [jm_ex] at he
  split at he
  · obtain ⟨v, hv, rfl, rfl, rfl, rfl⟩ := jm_push_inl he
    rename_i i a r
    rw [Option.map_eq_some_iff] at hv
    obtain ⟨y, hv, rfl⟩ := hv
    unfold jm_ai at hv
    split at hv
    · rename_i t n f ho
      split at hv
      · rename_i ht
        split at hv
        · rename_i hin
          cases hv
          have hce := hR.look ho
          obtain ⟨-, q1⟩ := hce
          simp at ht
          subst ht
          exact va_cald X.1 X.2.1 K.1 (jm_P1 q1) 0 2 rfl (jm_tys_at rfl) (jm_vpin hin) hd (k H locs ls hR hS hL hl0 hc0)
        · cases hv
      · cases hv
    · cases hv
  · cases he
theorem jm_w_laload (X : jm_cx p s m args meth c mi) (K : jm_K D dA G s) (hd : decode (jm_code mi) pc = .ok (.laload, len)) (hl : jm_lok (.laload) len = true) (he : jm_ex T G fa pc len (.laload) L st h = some (.inl (pc', L', st', h'))) (k : jm_Wf p l e R s m args below meth c Q D dA base G c0 mi pc' L' st' h') : jm_Wf p l e R s m args below meth c Q D dA base G c0 mi pc L st h := by
  have hn := eq_of_beq hl
  subst hn
  intro H locs ls hR hS hL hl0 hc0
  dsimp only [jm_ex] at he
  split at he
  · obtain ⟨v, hv, rfl, rfl, rfl, rfl⟩ := jm_push_inl he
    rename_i i a r
    rw [Option.map_eq_some_iff] at hv
    obtain ⟨y, hv, rfl⟩ := hv
    unfold jm_aj at hv
    split at hv
    · rename_i t n f ho
      split at hv
      · rename_i ht
        split at hv
        · rename_i hin
          cases hv
          have hce := hR.look ho
          obtain ⟨-, q1⟩ := hce
          simp at ht
          subst ht
          exact va_lald X.1 X.2.1 K.1 (jm_P1 q1) 0 4 rfl (jm_tys_at rfl) (jm_vpin hin) hd (k H locs ls hR hS hL hl0 hc0)
        · cases hv
      · cases hv
    · cases hv
  · cases he
theorem jm_w_iastore (X : jm_cx p s m args meth c mi) (K : jm_K D dA G s) (hd : decode (jm_code mi) pc = .ok (.iastore, len)) (hl : jm_lok (.iastore) len = true) (he : jm_ex T G fa pc len (.iastore) L st h = some (.inl (pc', L', st', h'))) (k : jm_Wf p l e R s m args below meth c Q D dA base G c0 mi pc' L' st' h') : jm_Wf p l e R s m args below meth c Q D dA base G c0 mi pc L st h := by
  have hn := eq_of_beq hl
  subst hn
  intro H locs ls hR hS hL hl0 hc0
  dsimp only [jm_ex] at he
  split at he
  · rename_i x i a r
    split at he
    · rename_i h1 hp1
      cases he
      unfold jm_si at hp1
      split at hp1
      · rename_i t n f ho
        split at hp1
        · rename_i ty hty
          split at hp1
          · rename_i hin
            cases hp1
            obtain ⟨hb, hlt, q1⟩ := hR.2.2.1 _ _ ho
            simp only [List.lookup] at hty
            split at hty
            · have ht : t = 0 := eq_of_beq (by assumption)
              subst ht
              cases hty
              refine W.iast X.1 X.2.1 q1 ((K.1.2 0 _ (jm_tys_at rfl)).1 n (fun j => .int (f j))) (fun q => by cases q) (by show ¬ (i < 0 ∨ (arrV _ _ _).slots.size ≤ _); rw [arrV_size]; exact jm_vpin hin) rfl rfl hd fun H1 e z oq => ?_
              refine k H1 _ ls (hR.upd ho z oq ⟨hlt, ?_⟩) (hS.put z oq hb) hL hl0 hc0
              show H1[a]? = some (vp_cell _ _)
              rw [e, vp_cell_i, vp_cell_i, arrV_store]
              exact congrArg (fun z => some (arrV _ n z)) (jm_upi (g := Value.int) f i (vp_nar .int x))
            · cases hty
          · cases hp1
        · cases hp1
      · cases hp1
    · cases he
  · cases he
theorem jm_w_bastore (X : jm_cx p s m args meth c mi) (K : jm_K D dA G s) (hd : decode (jm_code mi) pc = .ok (.bastore, len)) (hl : jm_lok (.bastore) len = true) (he : jm_ex T G fa pc len (.bastore) L st h = some (.inl (pc', L', st', h'))) (k : jm_Wf p l e R s m args below meth c Q D dA base G c0 mi pc' L' st' h') : jm_Wf p l e R s m args below meth c Q D dA base G c0 mi pc L st h := by
  have hn := eq_of_beq hl
  subst hn
  intro H locs ls hR hS hL hl0 hc0
  dsimp only [jm_ex] at he
  split at he
  · rename_i x i a r
    split at he
    · rename_i h1 hp1
      cases he
      unfold jm_si at hp1
      split at hp1
      · rename_i t n f ho
        split at hp1
        · rename_i ty hty
          split at hp1
          · rename_i hin
            cases hp1
            obtain ⟨hb, hlt, q1⟩ := hR.2.2.1 _ _ ho
            simp only [List.lookup] at hty
            split at hty
            · have ht : t = 1 := eq_of_beq (by assumption)
              subst ht
              cases hty
              refine W.bast X.1 X.2.1 q1 ((K.1.2 1 _ (jm_tys_at rfl)).1 n (fun j => .int (f j))) (fun q => by cases q) (by show ¬ (i < 0 ∨ (arrV _ _ _).slots.size ≤ _); rw [arrV_size]; exact jm_vpin hin) rfl rfl hd fun H1 e z oq => ?_
              refine k H1 _ ls (hR.upd ho z oq ⟨hlt, ?_⟩) (hS.put z oq hb) hL hl0 hc0
              show H1[a]? = some (vp_cell _ _)
              rw [e, vp_cell_i, vp_cell_i, arrV_store]
              exact congrArg (fun z => some (arrV _ n z)) (jm_upi (g := Value.int) f i (vp_nar .byte x))
            split at hty
            · have ht : t = 3 := eq_of_beq (by assumption)
              subst ht
              cases hty
              refine W.zast X.1 X.2.1 q1 ((K.1.2 3 _ (jm_tys_at rfl)).1 n (fun j => .int (f j))) (fun q => by cases q) (by show ¬ (i < 0 ∨ (arrV _ _ _).slots.size ≤ _); rw [arrV_size]; exact jm_vpin hin) rfl rfl hd fun H1 e z oq => ?_
              refine k H1 _ ls (hR.upd ho z oq ⟨hlt, ?_⟩) (hS.put z oq hb) hL hl0 hc0
              show H1[a]? = some (vp_cell _ _)
              rw [e, vp_cell_i, vp_cell_i, arrV_store]
              exact congrArg (fun z => some (arrV _ n z)) (jm_upi (g := Value.int) f i (vp_nar .boolean x))
            · cases hty
          · cases hp1
        · cases hp1
      · cases hp1
    · cases he
  · cases he
theorem jm_w_castore (X : jm_cx p s m args meth c mi) (K : jm_K D dA G s) (hd : decode (jm_code mi) pc = .ok (.castore, len)) (hl : jm_lok (.castore) len = true) (he : jm_ex T G fa pc len (.castore) L st h = some (.inl (pc', L', st', h'))) (k : jm_Wf p l e R s m args below meth c Q D dA base G c0 mi pc' L' st' h') : jm_Wf p l e R s m args below meth c Q D dA base G c0 mi pc L st h := by
  have hn := eq_of_beq hl
  subst hn
  intro H locs ls hR hS hL hl0 hc0
  dsimp only [jm_ex] at he
  split at he
  · rename_i x i a r
    split at he
    · rename_i h1 hp1
      cases he
      unfold jm_si at hp1
      split at hp1
      · rename_i t n f ho
        split at hp1
        · rename_i ty hty
          split at hp1
          · rename_i hin
            cases hp1
            obtain ⟨hb, hlt, q1⟩ := hR.2.2.1 _ _ ho
            simp only [List.lookup] at hty
            split at hty
            · have ht : t = 2 := eq_of_beq (by assumption)
              subst ht
              cases hty
              refine W.cast X.1 X.2.1 q1 ((K.1.2 2 _ (jm_tys_at rfl)).1 n (fun j => .int (f j))) (fun q => by cases q) (by show ¬ (i < 0 ∨ (arrV _ _ _).slots.size ≤ _); rw [arrV_size]; exact jm_vpin hin) rfl rfl hd fun H1 e z oq => ?_
              refine k H1 _ ls (hR.upd ho z oq ⟨hlt, ?_⟩) (hS.put z oq hb) hL hl0 hc0
              show H1[a]? = some (vp_cell _ _)
              rw [e, vp_cell_i, vp_cell_i, arrV_store]
              exact congrArg (fun z => some (arrV _ n z)) (jm_upi (g := Value.int) f i (vp_nar .char x))
            · cases hty
          · cases hp1
        · cases hp1
      · cases hp1
    · cases he
  · cases he
theorem jm_w_lastore (X : jm_cx p s m args meth c mi) (K : jm_K D dA G s) (hd : decode (jm_code mi) pc = .ok (.lastore, len)) (hl : jm_lok (.lastore) len = true) (he : jm_ex T G fa pc len (.lastore) L st h = some (.inl (pc', L', st', h'))) (k : jm_Wf p l e R s m args below meth c Q D dA base G c0 mi pc' L' st' h') : jm_Wf p l e R s m args below meth c Q D dA base G c0 mi pc L st h := by
  have hn := eq_of_beq hl
  subst hn
  intro H locs ls hR hS hL hl0 hc0
  dsimp only [jm_ex] at he
  split at he
  · rename_i x i a r
    split at he
    · rename_i h1 hp1
      cases he
      unfold jm_sj at hp1
      split at hp1
      · rename_i t n f ho
        split at hp1
        · rename_i ht
          split at hp1
          · rename_i hin
            cases hp1
            obtain ⟨hb, hlt, q1⟩ := hR.2.2.1 _ _ ho
            simp at ht
            subst ht
            refine W.last X.1 X.2.1 q1 ((K.1.2 4 _ (jm_tys_at rfl)).1 n (fun j => .long (f j))) (fun q => by cases q) (by show ¬ (i < 0 ∨ (arrV _ _ _).slots.size ≤ _); rw [arrV_size]; exact jm_vpin hin) rfl rfl hd fun H1 e z oq => ?_
            refine k H1 _ ls (hR.upd ho z oq ⟨hlt, ?_⟩) (hS.put z oq hb) hL hl0 hc0
            show H1[a]? = some (vp_cell _ _)
            rw [e, vp_cell_l, vp_cell_l, arrV_store]
            exact congrArg (fun z => some (arrV _ n z)) (jm_upi (g := Value.long) f i x)
          · cases hp1
        · cases hp1
      · cases hp1
    · cases he
  · cases he
theorem jm_w_aaload (X : jm_cx p s m args meth c mi) (K : jm_K D dA G s) (hd : decode (jm_code mi) pc = .ok (.aaload, len)) (hl : jm_lok (.aaload) len = true) (he : jm_ex T G fa pc len (.aaload) L st h = some (.inl (pc', L', st', h'))) (k : jm_Wf p l e R s m args below meth c Q D dA base G c0 mi pc' L' st' h') : jm_Wf p l e R s m args below meth c Q D dA base G c0 mi pc L st h := by
  have hn := eq_of_beq hl
  subst hn
  intro H locs ls hR hS hL hl0 hc0
  dsimp only [jm_ex] at he
  split at he
  · obtain ⟨v, hv, rfl, rfl, rfl, rfl⟩ := jm_push_inl he
    rename_i i a r
    unfold jm_aq at hv
    split at hv
    · rename_i t n f ho
      split at hv
      · rename_i hin
        cases hv
        rw [Bool.and_eq_true] at hin
        obtain ⟨hlt, q1⟩ := hR.look ho
        have hlt : t < jm_aty.length := hlt
        have ht5 : 5 ≤ t := Nat.le_of_ble_eq_true hin.2
        have hty : jm_aty[t]? = some jm_aty[t] := List.getElem?_eq_getElem hlt
        have href : (jm_aty[t]).isReference = true := jm_aty_ref _ _ hty ht5
        have hvp := jm_vpin hin.1
        have hlt2 : i.toNatClampNeg < n := Nat.not_le.mp fun q => hvp (Or.inr q)
        exact W.aald (v := va_rf (f i.toInt.toNat)) X.1 X.2.1 q1 ((K.1.2 t _ (jm_tys_at hty)).1 n (fun j => va_rf (f j))) href (fun q => by cases q) (by show ¬ (i < 0 ∨ (arrV _ _ _).slots.size ≤ _); rw [arrV_size]; exact hvp) (by show (arrV _ _ _).slots[_]? = _; rw [arrV_read _ _ hlt2]; rfl) rfl rfl hd (k H locs ls hR hS hL hl0 hc0)
      · cases hv
    · cases hv
  · cases he
theorem jm_w_aastore (X : jm_cx p s m args meth c mi) (K : jm_K D dA G s) (hTq : jm_Tq T = jm_asg) (Vq : jm_Vq) (hd : decode (jm_code mi) pc = .ok (.aastore, len)) (hl : jm_lok (.aastore) len = true) (he : jm_ex T G fa pc len (.aastore) L st h = some (.inl (pc', L', st', h'))) (k : jm_Wf p l e R s m args below meth c Q D dA base G c0 mi pc' L' st' h') : jm_Wf p l e R s m args below meth c Q D dA base G c0 mi pc L st h := by
  have hn := eq_of_beq hl
  subst hn
  intro H locs ls hR hS hL hl0 hc0
  dsimp only [jm_ex] at he
  split at he
  · rename_i v i a r
    split at he
    · rename_i h1 hp1
      cases he
      unfold jm_sq at hp1
      split at hp1
      · rename_i t n f ho
        split at hp1
        · rename_i hin
          obtain ⟨hb, hlt, q1⟩ := hR.2.2.1 _ _ ho
          have hvp := jm_vpin hin
          have hlt2 : i.toNatClampNeg < n := Nat.not_le.mp fun q => hvp (Or.inr q)
          have h0 : ¬ i < 0 := fun q => hvp (Or.inl q)
          split at hp1
          · split at hp1
            · rename_i hok
              cases hp1
              rw [hTq] at hok
              obtain ⟨E, hE, -⟩ := Vq _ _ hok
              refine va_WaastN (C := E) X.1 X.2.1 q1 ((K.1.2 t _ (jm_tys_at hE)).1 n (fun j => va_rf (f j))) (fun h => by cases h) (by show ¬ (i < 0 ∨ (arrV _ _ _).slots.size ≤ _); rw [arrV_size]; exact hvp) rfl rfl hd fun H1 e z oq => ?_
              refine k H1 _ ls (hR.upd ho z oq ⟨hlt, ?_⟩) (hS.put z oq hb) hL hl0 hc0
              show H1[a]? = some (vp_cell _ _)
              rw [e, vp_cell_q, vp_cell_q, arrV_store]
              exact congrArg (fun z => some (arrV _ n z)) (jm_upi (g := va_rf) f i none)
            · cases hp1
          · rename_i b
            split at hp1
            · rename_i cb hcb
              split at hp1
              · rename_i hok
                cases hp1
                rw [hTq] at hok
                obtain ⟨E, hE, hk9⟩ := Vq _ _ hok
                have hkc : jm_kc (jm_kd cb) E := by
                  rcases hk9 with hk9 | ⟨kd, hk9, hkc⟩
                  · omega
                  · have : jm_kd cb = kd := by omega
                    rw [this]; exact hkc
                obtain ⟨cellV, g1, g3, ⟨kC, hkC⟩, hasg⟩ := jm_cls K (hR.look hcb) hkc
                obtain ⟨kA, comp, k1, k2, k3, -⟩ := (K.1.2 t _ (jm_tys_at hE)).2
                obtain ⟨kE, hkE, -⟩ := Vm.findClass_spec k3
                refine W.aast X.1 X.2.1 q1 (fun q h => by cases h) (fun h => by cases h) k1 k2 rfl hkE ⟨h0, by show _ < (arrV _ _ _).slots.size; rw [arrV_size]; exact hlt2⟩ g1 (fun q h => by rw [h] at g3; cases g3) hkC (hasg comp k3) rfl rfl hd fun H1 e z oq => ?_
                refine k H1 _ ls (hR.upd ho z oq ⟨hlt, ?_⟩) (hS.put z oq hb) hL hl0 hc0
                show H1[a]? = some (vp_cell _ _)
                rw [e, vp_cell_q, vp_cell_q, arrV_store]
                exact congrArg (fun z => some (arrV _ n z)) (jm_upi (g := va_rf) f i (some b))
              · cases hp1
            · cases hp1
          · cases hp1
        · cases hp1
      · cases hp1
    · cases he
  · cases he
theorem jm_w_arraylength (X : jm_cx p s m args meth c mi) (K : jm_K D dA G s) (hd : decode (jm_code mi) pc = .ok (.arraylength, len)) (hl : jm_lok (.arraylength) len = true) (he : jm_ex T G fa pc len (.arraylength) L st h = some (.inl (pc', L', st', h'))) (k : jm_Wf p l e R s m args below meth c Q D dA base G c0 mi pc' L' st' h') : jm_Wf p l e R s m args below meth c Q D dA base G c0 mi pc L st h := by
  have hn := eq_of_beq hl
  subst hn
  intro H locs ls hR hS hL hl0 hc0
  dsimp only [jm_ex] at he
  split at he
  · obtain ⟨v, hv, rfl, rfl, rfl, rfl⟩ := jm_push_inl he
    rename_i a r
    rw [Option.map_eq_some_iff] at hv
    obtain ⟨y, hv, rfl⟩ := hv
    unfold jm_len at hv
    split at hv
    · rename_i x ho
      cases hv
      obtain ⟨hlt, q1⟩ := hR.look ho
      exact va_alen X.1 X.2.1 K.1 (jm_P1 q1) 0 x.1 rfl (jm_tys_at (List.getElem?_eq_getElem hlt)) rfl hd (k H locs ls hR hS hL hl0 hc0)
    · cases hv
  · cases he
theorem jm_w_getstatic {x : Nat} (X : jm_cx p s m args meth c mi) (K : jm_K D dA G s) (Z : jm_Z G base s s.heap) (Vs : ∀ x q, jm_Ts T x = some q → ∃ C n d ref, (q, C, n, d) ∈ jm_sts ∧ ((Jvm.Cond.fieldLink (jm_onm (jm_own mi)) x ref n d) ∈ lw_all ∨ ∃ host, (Jvm.Cond.fieldLinkNest (jm_onm (jm_own mi)) x ref n d host) ∈ lw_tbl) ∧ ref = C) (hd : decode (jm_code mi) pc = .ok (.getstatic x, len)) (hl : jm_lok (.getstatic x) len = true) (he : jm_ex T G fa pc len (.getstatic x) L st h = some (.inl (pc', L', st', h'))) (k : jm_Wf p l e R s m args below meth c Q D dA base G c0 mi pc' L' st' h') : jm_Wf p l e R s m args below meth c Q D dA base G c0 mi pc L st h := by
  have hn := eq_of_beq hl
  subst hn
  intro H locs ls hR hS hL hl0 hc0
  dsimp only [jm_ex] at he
  split at he
  · rename_i q hq
    cases he
    obtain ⟨C, n, d, ref, hmem, hlink, rfl⟩ := Vs x q hq
    have hz := Z _ hmem
    rcases hlink with hw | ⟨host, hw⟩
    · exact va_gets X.1 X.2.1 hz hS X.2.2.2.2.1 (X.2.2.2.2.2 _ hw) (fun _ z => z) hd (k H locs ls hR hS hL hl0 hc0)
    · exact va_getsN X.1 X.2.1 hz hS X.2.2.2.2.1 (va_Nw.use rfl (K.2.1 _ hw rfl)) (fun _ z => z) hd (k H locs ls hR hS hL hl0 hc0)
  · cases he
def jm_Vl (o x : Nat) (v : Value ⊕ Nat) : Prop := match v with
  | .inl (.int z) => (Jvm.Cond.constant (jm_onm o) x z) ∈ lw_all
  | .inl (.float z) => (Jvm.Cond.constantFloat (jm_onm o) x z) ∈ lw_all
  | .inr q => (∃ tx, (q, jm_onm o, x, tx) ∈ jm_sks) ∨ ∃ C, (q, C) ∈ jm_mis ∧ (Jvm.Cond.classLink (jm_onm o) x C) ∈ lw_all ∧ x < 256
  | _ => False
theorem jm_w_ldc {x : Nat} (X : jm_cx p s m args meth c mi) (K : jm_K D dA G s) (Vl : ∀ x v, jm_Tc T x = some v → jm_Vl (jm_own mi) x v) (hd : decode (jm_code mi) pc = .ok (.ldc x, len)) (hl : jm_lok (.ldc x) len = true) (he : jm_ex T G fa pc len (.ldc x) L st h = some (.inl (pc', L', st', h'))) (k : jm_Wf p l e R s m args below meth c Q D dA base G c0 mi pc' L' st' h') : jm_Wf p l e R s m args below meth c Q D dA base G c0 mi pc L st h := by
  have hn := eq_of_beq hl
  subst hn
  intro H locs ls hR hS hL hl0 hc0
  dsimp only [jm_ex] at he
  obtain ⟨v, hv, rfl, rfl, rfl, rfl⟩ := jm_push_inl he
  have k1 := k H locs ls hR hS hL hl0 hc0
  unfold jm_ldc at hv
  split at hv
  · rename_i v0 h0
    cases hv
    have h1 := Vl x _ h0
    cases v with
    | int z => exact lv_ldc X.1 X.2.1 X.2.2.2.2.1 (X.2.2.2.2.2 _ h1) hd k1
    | float z => exact lv_ldcf X.1 X.2.1 X.2.2.2.2.1 (X.2.2.2.2.2 _ h1) hd k1
    | _ => exact h1.elim
  · rename_i q h0
    cases hv
    rcases Vl x _ h0 with ⟨tx, hm⟩ | ⟨C, hm, hw, -⟩
    · obtain ⟨a, ea, hr⟩ := K.2.2.2.2.2.2.1 _ hm
      have ea : G.2 q = .ref a := ea
      rw [ea] at k1
      exact va_ldcS X.1 X.2.1 X.2.2.2.2.1 hr hd k1
    · obtain ⟨a, ea, hr⟩ := K.2.2.2.2.2.2.2.1 _ hm
      have ea : G.2 q = .ref a := ea
      rw [ea] at k1
      exact va_ldcM X.1 X.2.1 X.2.2.2.2.1 (X.2.2.2.2.2 _ hw) hr hd k1
  · cases hv
theorem jm_w_ldc_w {x : Nat} (X : jm_cx p s m args meth c mi) (K : jm_K D dA G s) (Vl : ∀ x v, jm_Tc T x = some v → jm_Vl (jm_own mi) x v) (hd : decode (jm_code mi) pc = .ok (.ldc_w x, len)) (hl : jm_lok (.ldc_w x) len = true) (he : jm_ex T G fa pc len (.ldc_w x) L st h = some (.inl (pc', L', st', h'))) (k : jm_Wf p l e R s m args below meth c Q D dA base G c0 mi pc' L' st' h') : jm_Wf p l e R s m args below meth c Q D dA base G c0 mi pc L st h := by
  have hn := eq_of_beq hl
  subst hn
  intro H locs ls hR hS hL hl0 hc0
  dsimp only [jm_ex] at he
  split at he
  · rename_i z h0
    cases he
    exact lv_ldcw X.1 X.2.1 X.2.2.2.2.1 (X.2.2.2.2.2 _ (Vl x _ h0)) hd (k H locs ls hR hS hL hl0 hc0)
  · rename_i q h0
    split at he
    · rename_i h256
      cases he
      have k1 := k H locs ls hR hS hL hl0 hc0
      rcases Vl x _ h0 with ⟨tx, hm⟩ | ⟨C, hm, hw, hx⟩
      · obtain ⟨a, ea, hr⟩ := K.2.2.2.2.2.2.1 _ hm
        have ea : G.2 q = .ref a := ea
        rw [ea] at k1
        intro T9 hT X9
        obtain ⟨t, a1, b1⟩ := k1 T9 hT X9
        exact ⟨t, X9.ldcStringW X.1 X.2.2.2.2.1 (text := tx) (a := a) hr.1 hr.2 (g := F0 m pc ls st) rfl (by rw [X.2.1]; exact hd) t a1, b1⟩
      · omega
    · cases he
  · cases he
theorem jm_w_ldc2 {x : Nat} (X : jm_cx p s m args meth c mi) (Vj : ∀ x v, jm_Tl T x = some v → (Jvm.Cond.constantLong (jm_onm (jm_own mi)) x v) ∈ lw_all) (hd : decode (jm_code mi) pc = .ok (.ldc2_w x, len)) (hl : jm_lok (.ldc2_w x) len = true) (he : jm_ex T G fa pc len (.ldc2_w x) L st h = some (.inl (pc', L', st', h'))) (k : jm_Wf p l e R s m args below meth c Q D dA base G c0 mi pc' L' st' h') : jm_Wf p l e R s m args below meth c Q D dA base G c0 mi pc L st h := by
  have hn := eq_of_beq hl
  subst hn
  intro H locs ls hR hS hL hl0 hc0
  dsimp only [jm_ex] at he
  obtain ⟨v, hv, rfl, rfl, rfl, rfl⟩ := jm_push_inl he
  rw [Option.map_eq_some_iff] at hv
  obtain ⟨y, hv, rfl⟩ := hv
  exact lv_ldc2 X.1 X.2.1 X.2.2.2.2.1 (X.2.2.2.2.2 _ (Vj x _ hv)) hd (k H locs ls hR hS hL hl0 hc0)
theorem jm_w_new {x : Nat} (X : jm_cx p s m args meth c mi) (K : jm_K D dA G s) (Vc : ∀ ci, ci < jcl.length → jm_Vc ci) (Vn : ∀ x q, jm_Tn T x = some q → q.2.1 = jm_nf q.1 ∧ q.2.2 = jm_tyf q.1 ∧ ∃ C T' N, jcl[q.1]? = some (C, T', N) ∧ (Jvm.Cond.classLink (jm_onm (jm_own mi)) x C) ∈ lw_all ∧ q.1 ≠ 38) (hd : decode (jm_code mi) pc = .ok (.new x, len)) (hl : jm_lok (.new x) len = true) (he : jm_ex T G fa pc len (.new x) L st h = some (.inl (pc', L', st', h'))) (hrm : h'.2.2 - c0 ≤ R.cells ∧ h'.2.2 - c0 ≤ R.slots) (k : jm_Wf p l e R s m args below meth c Q D dA base G c0 mi pc' L' st' h') : jm_Wf p l e R s m args below meth c Q D dA base G c0 mi pc L st h := by
  have hn := eq_of_beq hl
  subst hn
  intro H locs ls hR hS hL hl0 hc0
  dsimp only [jm_ex] at he
  split at he
  · rename_i ci N ty hq
    cases he
    obtain ⟨e1, e2, C, T', N', hcl, hw, h38⟩ := Vn x _ hq
    have e1 : N = jm_nf ci := e1
    have e2 : ty = jm_tyf ci := e2
    obtain ⟨C9, T9, N9, hc9, hN9, hin9, hty9, hnm9, hins, hini, -⟩ := Vc ci (List.getElem?_eq_some_iff.mp hcl).1
    cases hcl.symm.trans hc9
    have hKn := K.1.1 _ _ hc9
    have hb2 : (jm_newc h ci N ty).2.2 = h.2.2 + N + 1 := rfl
    have hc1 : (jm_newc h ci N ty).2.2 - c0 = (h.2.2 - c0) + N + 1 := by rw [hb2]; omega
    rw [hc1] at hrm
    refine W.newcK X.1 X.2.1 X.2.2.2.2.1 (X.2.2.2.2.2 _ hw) (X.2.2.2.2.2 _ (hins h38)) (X.2.2.2.2.2 _ hini) rfl hd (by omega) (by rw [hN9, ← e1]; omega) hKn.2.1 rfl fun H1 kC hkC f1 z1 o1 => ?_
    refine W.widen (k := h.2.2 - c0 + N + 1) (n := h.2.2 - c0 + N + 1) (by omega) (by rw [hN9, ← e1]; omega) ?_
    have hk := k H1 locs ls (hR.alloc (n := N) (c' := .inl (ci, fun j => defaultValue (ty j))) z1 o1 ⟨⟨_, hc9, hN9⟩, ?_⟩) (jm_S.alloc hS z1 o1) hL hl0 (by rw [hb2]; omega)
    · rw [hc1, hR.1] at hk
      exact hk
    · have := u_born (ws := lw_all) (args := args) (s := s) (jm_tyf ci) X.2.2.2.2.2 hin9 hKn hkC f1 hty9
      rw [← hN9, e2]
      exact this
  · cases he
theorem jm_w_newarray {t : ArrayType} (X : jm_cx p s m args meth c mi) (K : jm_K D dA G s) (Vy : ∀ ti ty, jm_at t = some (ti, ty) → (Jvm.Cond.arrayClass ty) ∈ lw_all) (hd : decode (jm_code mi) pc = .ok (.newarray t, len)) (hl : jm_lok (.newarray t) len = true) (he : jm_ex T G fa pc len (.newarray t) L st h = some (.inl (pc', L', st', h'))) (hrm : h'.2.2 - c0 ≤ R.cells ∧ h'.2.2 - c0 ≤ R.slots) (k : jm_Wf p l e R s m args below meth c Q D dA base G c0 mi pc' L' st' h') : jm_Wf p l e R s m args below meth c Q D dA base G c0 mi pc L st h := by
  have hn := eq_of_beq hl
  subst hn
  intro H locs ls hR hS hL hl0 hc0
  dsimp only [jm_ex] at he
  split at he
  · rename_i n r
    split at he
    · cases he
    · rename_i hneg
      split at he
      · rename_i ti ty hat
        split at he
        · rename_i h1 hnw
          cases he
          unfold jm_nwa at hnw
          split at hnw
          · rename_i x0 x1 hz
            split at hnw
            · rename_i hle
              cases hnw
              have hw := X.2.2.2.2.2 _ (Vy ti ty hat)
              have hgood : newarray.typeOf t = ty ∧ jm_aty[ti]? = some ty ∧ ∀ cA, vp_cell cA x1 = arrV cA n.toInt.toNat (fun _ => defaultValue ty) := by
                cases t <;> simp [jm_at] at hat <;> obtain ⟨rfl, rfl⟩ := hat <;> simp [jm_zero] at hz <;> subst hz <;> exact ⟨rfl, rfl, fun _ => rfl⟩
              obtain ⟨g1, g2, g3⟩ := hgood
              have hb2 : (jm_alloc h (.inr (ti, x1)) n.toInt.toNat).2.2 = h.2.2 + n.toInt.toNat + 1 := rfl
              rw [hb2] at hrm
              have hcb : componentBytes (newarray.typeOf t) ≤ 8 := by cases t <;> decide
              refine va_newaK (N := n.toInt.toNat) X.1 X.2.1 (by rw [g1]; exact hw) rfl hd rfl hneg rfl (Nat.le_trans (Nat.mul_le_mul hle hcb) (by decide)) (by omega) (by omega) rfl fun H1 cA f1 z1 o1 hAr hNm => ?_
              have hcA : dA ti = cA := by
                have h9 := jm_RA ((K.1.2 ti _ (jm_tys_at g2)).2)
                have h9 : s.vm.findClass ("[" ++ ty.toString) = some (dA ti) := h9
                rw [g1] at hNm
                exact Option.some.inj (h9.symm.trans hNm)
              refine W.widen (k := h.2.2 - c0 + n.toInt.toNat + 1) (n := h.2.2 - c0 + n.toInt.toNat + 1) (by omega) (by omega) ?_
              have hk := k H1 locs ls (hR.alloc (n := n.toInt.toNat) (c' := .inr (ti, x1)) z1 o1 ⟨(List.getElem?_eq_some_iff.mp g2).1, by show H1[H.size]? = some (vp_cell (dA ti) x1); rw [hcA, g3]; rw [g1] at f1; exact f1⟩) (jm_S.alloc hS z1 o1) hL hl0 (by rw [hb2]; omega)
              rw [show (jm_alloc h (.inr (ti, x1)) n.toInt.toNat).2.2 - c0 = h.2.2 - c0 + n.toInt.toNat + 1 by rw [hb2]; omega, hR.1] at hk
              exact hk
            · cases hnw
          · cases hnw
        · cases he
      · cases he
  · cases he
theorem jm_w_anewarray {x : Nat} (X : jm_cx p s m args meth c mi) (K : jm_K D dA G s) (Va : ∀ x ti, jm_Ta T x = some ti → ∃ C, jm_aty[ti]? = some (.object C) ∧ C ∈ jm_aos ∧ (Jvm.Cond.classLink (jm_onm (jm_own mi)) x C) ∈ lw_all) (hd : decode (jm_code mi) pc = .ok (.anewarray x, len)) (hl : jm_lok (.anewarray x) len = true) (he : jm_ex T G fa pc len (.anewarray x) L st h = some (.inl (pc', L', st', h'))) (hrm : h'.2.2 - c0 ≤ R.cells ∧ h'.2.2 - c0 ≤ R.slots) (k : jm_Wf p l e R s m args below meth c Q D dA base G c0 mi pc' L' st' h') : jm_Wf p l e R s m args below meth c Q D dA base G c0 mi pc L st h := by
  have hn := eq_of_beq hl
  subst hn
  intro H locs ls hR hS hL hl0 hc0
  dsimp only [jm_ex] at he
  split at he
  · rename_i n r
    split at he
    · cases he
    · rename_i hneg
      split at he
      · rename_i ti hta
        split at he
        · rename_i h1 hnw
          cases he
          unfold jm_nwa at hnw
          split at hnw
          · rename_i x0 x1 hz
            split at hnw
            · rename_i hle
              cases hnw
              cases hz
              obtain ⟨C, g2, hao, hw⟩ := Va x ti hta
              generalize hx1 : ((n.toInt.toNat, .inr (.inr (.inr (.inr (fun _ => none))))) : vp_A) = x1 at *
              have hb2 : (jm_alloc h (.inr (ti, x1)) n.toInt.toNat).2.2 = h.2.2 + n.toInt.toNat + 1 := rfl
              rw [hb2] at hrm
              refine W.anew X.1 X.2.1 X.2.2.2.2.1 (X.2.2.2.2.2 _ hw) (va_AO.use (K.2.2.2.1 _ hao)) rfl hd rfl hneg (Nat.le_trans (Nat.mul_le_mul_right 4 hle) (by decide)) (by omega) (by show h.2.2 - c0 + n.toInt.toNat ≤ _; omega) fun cA kA comp f1 f2 f3 f4 => ?_
              generalize hH1 : H.push ({ cls := cA, slots := Array.replicate n.toNatClampNeg .null, vm := .none } : Cell) = H1
              have z1 : H1.size = H.size + 1 := by rw [← hH1, Array.size_push]
              have e1 : H1[H.size]? = some (arrV cA n.toNatClampNeg (fun _ => .null)) := by rw [← hH1, Array.getElem?_push_size, ← arrV_new]
              have o1 : ∀ q : Nat, q < H.size → H1[q]? = H[q]? := fun q hq => by rw [← hH1, Array.getElem?_push, if_neg (Nat.ne_of_lt hq)]
              have hcA : dA ti = cA := by
                have h9 := jm_RA ((K.1.2 ti _ (jm_tys_at g2)).2)
                exact Option.some.inj (h9.symm.trans f1)
              refine W.widen (k := h.2.2 - c0 + n.toInt.toNat + 1) (n := h.2.2 - c0 + n.toInt.toNat + 1) (by omega) (by show h.2.2 - c0 + n.toInt.toNat ≤ _; omega) ?_
              have hk := k H1 locs ls (hR.alloc (n := n.toInt.toNat) (c' := .inr (ti, x1)) z1 o1 ⟨(List.getElem?_eq_some_iff.mp g2).1, by show H1[H.size]? = some (vp_cell (dA ti) x1); rw [hcA, e1, ← hx1]; rfl⟩) (jm_S.alloc hS z1 o1) hL hl0 (by rw [hb2]; omega)
              rw [show (jm_alloc h (.inr (ti, x1)) n.toInt.toNat).2.2 - c0 = h.2.2 - c0 + n.toInt.toNat + 1 by rw [hb2]; omega, hR.1] at hk
              exact hk
            · cases hnw
          · cases hnw
        · cases he
      · cases he
  · cases he
end JMA
