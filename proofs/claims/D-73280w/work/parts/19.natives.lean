/-! CALLS THAT STAY IN THE FRAME: Object's constructor, arraycopy, getClass -/
theorem jm_pop_of {n : Nat} {st as r : List Value} (h : jm_pop n st = some (as, r)) : st = as.reverse ++ r ∧ as.length = n ∧ r.length ≤ 4 := by
  unfold jm_pop at h
  split at h
  · rename_i q
    cases h
    exact ⟨by simp, by simp; omega, q.2⟩
  · cases h
theorem jm_cats : ∀ (r : List Value), (r.map fun v => v.category).sum ≤ 2 * r.length
  | [] => by simp
  | v :: r => by
    have h1 := jm_cats r
    have h2 : v.category ≤ 2 := by cases v <;> simp [Value.category]
    simp only [List.map_cons, List.sum_cons, List.length_cons]
    omega
theorem jm_i32 {z : Int32} (h : 0 ≤ z.toInt) : ¬ z < 0 := fun q => by
  have := Int32.lt_iff_toInt_lt.mp q
  simp at this
  omega
theorem jm_do2 {oks : List Nat} {ok : Nat → Nat → Bool} {G : jm_G} {n : Nat} {tg : List (Nat × Nat)} {pc : Nat} {L : jm_L} {st : List Value} {h : jm_H} {x : jm_A} (he : jm_do oks ok G 2 n tg pc L st h = some x) : ∃ as a r, jm_pop n st = some (as, .ref a :: r) ∧ x = .inl (pc, L, r, h) := by
  have he : (if oks.contains 2 = true then (match jm_pop n st with
    | none => none
    | some (as, r) => match r with
      | .ref _ :: r' => jm_nx pc L r' h
      | _ => none) else none) = some x := he
  split at he
  · split at he
    · cases he
    · split at he
      · cases he; exact ⟨_, _, _, by assumption, rfl⟩
      · cases he
  · cases he
theorem jm_do4 {oks : List Nat} {ok : Nat → Nat → Bool} {G : jm_G} {n : Nat} {tg : List (Nat × Nat)} {pc : Nat} {L : jm_L} {st : List Value} {h : jm_H} {x : jm_A} (he : jm_do oks ok G 4 n tg pc L st h = some x) : ∃ a sp b dp nn r h', jm_pop n st = some ([.ref a, .int sp, .ref b, .int dp, .int nn], r) ∧ jm_copy ok G h a sp b dp nn = some h' ∧ x = .inl (pc, L, r, h') := by
  have he : (if oks.contains 4 = true then (match jm_pop n st with
    | none => none
    | some (as, r) => match as with
      | [.ref a, .int s, .ref b, .int d, .int n] => match jm_copy ok G h a s b d n with
        | some h' => jm_nx pc L r h'
        | none => none
      | _ => none) else none) = some x := he
  split at he
  · split at he
    · cases he
    · split at he
      · split at he
        · cases he; exact ⟨_, _, _, _, _, _, _, by assumption, by assumption, rfl⟩
        · cases he
      · cases he
  · cases he
theorem jm_do5 {oks : List Nat} {ok : Nat → Nat → Bool} {G : jm_G} {n : Nat} {tg : List (Nat × Nat)} {pc : Nat} {L : jm_L} {st : List Value} {h : jm_H} {x : jm_A} (he : jm_do oks ok G 5 n tg pc L st h = some x) : ∃ as a r c q, jm_pop n st = some (as, .ref a :: r) ∧ jm_look G h a = some (.inr c) ∧ tg.lookup c.1 = some q ∧ x = .inl (pc, L, G.2 q :: r, h) := by
  have he : (if oks.contains 5 = true then (match jm_pop n st with
    | none => none
    | some (as, r) => match r with
      | .ref a :: r' => match jm_look G h a with
        | some (.inr x) => match tg.lookup x.1 with
          | some q => jm_nx pc L (G.2 q :: r') h
          | none => none
        | _ => none
      | _ => none) else none) = some x := he
  split at he
  · split at he
    · cases he
    · split at he
      · split at he
        · split at he
          · cases he; exact ⟨_, _, _, _, _, by assumption, by assumption, by assumption, rfl⟩
          · cases he
        · cases he
      · cases he
  · cases he
section JMNT
variable {p : Program} {l : Launch} {e : Env} {R : Room} {s : State} {m : MethodId} {args : Array Value} {below : List Frame} {meth : Method} {c : Code} {Q : State → Prop} {D : va_G} {dA : Nat → ClassId} {base : Nat} {G : jm_G} {c0 mi pc pc' len fa : Nat} {T : jm_T} {L L' : jm_L} {st st' : List Value} {h h' : jm_H}
theorem jm_w_objinit {x : Nat} (X : jm_cx p s m args meth c mi) (Vi : ∀ x n tg, jm_Ti T x = some (2, n, tg) → n = 0 ∧ (Jvm.Cond.methodLink (jm_onm (jm_own mi)) x Lib.objectInit) ∈ lw_all ∧ (Jvm.Cond.instanceMethod Lib.objectInit) ∈ lw_all ∧ (Jvm.Cond.code Lib.objectInit ⟨#[0xb1]⟩ 1 none) ∈ lw_all) (hR1 : 1 ≤ R.frames ∧ 100 ≤ R.locals) {n : Nat} {tg : List (Nat × Nat)} (hi : jm_Ti T x = some (2, n, tg)) (hd : decode (jm_code mi) pc = .ok (.invokespecial x, 3)) (he : jm_do [1, 2] (jm_Tq T) G 2 n tg (pc + 3) L st h = some (.inl (pc', L', st', h'))) (k : jm_Wf p l e R s m args below meth c Q D dA base G c0 mi pc' L' st' h') : jm_Wf p l e R s m args below meth c Q D dA base G c0 mi pc L st h := by
  intro H locs ls hR hS hL hl0 hc0
  obtain ⟨rfl, w1, w2, w3⟩ := Vi x n tg hi
  obtain ⟨as, a, r, hp, hx⟩ := jm_do2 he
  cases hx
  obtain ⟨e1, e2, e3⟩ := jm_pop_of hp
  have : as = [] := List.length_eq_zero_iff.mp e2
  subst this
  subst e1
  have hc := jm_cats st'
  simp at e3
  exact W.objInit X.1 X.2.1 X.2.2.2.2.1 (X.2.2.2.2.2 _ w1) (X.2.2.2.2.2 _ w2) (X.2.2.2.2.2 _ w3) rfl (by rw [X.2.2.2.1, ← hl0]; exact hL.1) rfl hd hR1.1 (by show 2 * 0 + _ + 12 ≤ _; omega) (k H locs ls hR hS hL hl0 hc0)
theorem jm_w_getclass {x : Nat} (X : jm_cx p s m args meth c mi) (K : jm_K D dA G s) (Vi : ∀ x n tg, jm_Ti T x = some (5, n, tg) → n = 0 ∧ (Jvm.Cond.methodLink (jm_onm (jm_own mi)) x ⟨"java/lang/Object", "getClass", "()Ljava/lang/Class;"⟩) ∈ lw_all ∧ (Jvm.Cond.instanceMethod ⟨"java/lang/Object", "getClass", "()Ljava/lang/Class;"⟩) ∈ lw_all ∧ (Jvm.Cond.native ⟨"java/lang/Object", "getClass", "()Ljava/lang/Class;"⟩) ∈ lw_all ∧ ∀ t q, tg.lookup t = some q → ∃ ty, jm_aty[t]? = some ty ∧ (q, "[" ++ ty.toString) ∈ jm_mis ∧ (Jvm.Cond.selects ("[" ++ ty.toString) ⟨"java/lang/Object", "getClass", "()Ljava/lang/Class;"⟩ ⟨"java/lang/Object", "getClass", "()Ljava/lang/Class;"⟩) ∈ lw_all) (hR1 : 1 ≤ R.frames ∧ 100 ≤ R.locals) {n : Nat} {tg : List (Nat × Nat)} (hi : jm_Ti T x = some (5, n, tg)) (hd : decode (jm_code mi) pc = .ok (.invokevirtual x, 3)) (he : jm_do [3, 5] (jm_Tq T) G 5 n tg (pc + 3) L st h = some (.inl (pc', L', st', h'))) (k : jm_Wf p l e R s m args below meth c Q D dA base G c0 mi pc' L' st' h') : jm_Wf p l e R s m args below meth c Q D dA base G c0 mi pc L st h := by
  intro H locs ls hR hS hL hl0 hc0
  obtain ⟨rfl, w1, w2, w3, w4⟩ := Vi x n tg hi
  obtain ⟨as, a, r, cc, q, hp, hcc, hq, hx⟩ := jm_do5 he
  cases hx
  obtain ⟨e1, e2, e3⟩ := jm_pop_of hp
  have : as = [] := List.length_eq_zero_iff.mp e2
  subst this
  subst e1
  have hc := jm_cats r
  simp at e3
  obtain ⟨ty, hty, hm, wsel⟩ := w4 _ _ hq
  obtain ⟨mi9, eq9, hMi⟩ := K.2.2.2.2.2.2.2.1 _ hm
  have k1 := k H locs ls hR hS hL hl0 hc0
  have eq9 : G.2 q = .ref mi9 := eq9
  rw [eq9] at k1
  obtain ⟨hlt, q1⟩ := hR.look hcc
  exact va_getC X.1 X.2.1 (by rw [X.2.2.2.1, ← hl0]; exact hL.1.symm) X.2.2.2.2.1 (X.2.2.2.2.2 _ w1) (va_Dc.use K.2.2.2.2.2.2.2.2) (X.2.2.2.2.2 _ wsel) (X.2.2.2.2.2 _ w2) (X.2.2.2.2.2 _ w3) hMi ⟨_, q1, by rw [jm_cell_vm]; rfl, by rw [jm_cell_cls]; exact jm_RA ((K.1.2 cc.1 _ (jm_tys_at hty)).2)⟩ hR1.1 (by omega) hd k1
theorem jm_w_copyB {x : Nat} (X : jm_cx p s m args meth c mi) (K : jm_K D dA G s) {a b : Nat} {sp dp nn : Int32} {N M : Nat} {f g : Nat → Int32} {H : Heap} {locs : List Loc} {ls : Array Slot} (w : (Jvm.Cond.methodLink (jm_onm (jm_own mi)) x arraycopyName) ∈ lw_all ∧ (Jvm.Cond.native arraycopyName) ∈ lw_all ∧ (Jvm.Cond.static arraycopyName) ∈ lw_all ∧ (Jvm.Cond.initialized "java/lang/System") ∈ lw_all) (hR1 : 1 ≤ R.frames ∧ 100 ≤ R.locals) (hd : decode (jm_code mi) pc = .ok (.invokestatic x, 3)) (hls : ls.size = jm_mxl mi) (hlen : st'.length ≤ 4) (hR : jm_rep D dA base G h H) (hS : va_S (jm_Aw base) s.heap H locs) (hca : H[a]? = some (vp_cell (dA 1) (N, .inl f))) (hb : h.1 b = some (.inr (1, M, .inl g))) (hs0 : 0 ≤ sp.toInt) (hd0 : 0 ≤ dp.toInt) (hn0 : 0 ≤ nn.toInt) (h4 : sp.toInt + nn.toInt ≤ N) (h5 : dp.toInt + nn.toInt ≤ M) (hfit : ∀ i, i < nn.toNatClampNeg → fits .byte (.int (f (sp.toNatClampNeg + i))) = true)
    (k : ∀ (H1 : Heap) (locs1 : List Loc), jm_rep D dA base G (jm_upd h b (.inr (1, M, .inl (jm_cpy f g sp.toInt.toNat dp.toInt.toNat nn.toInt.toNat)))) H1 → va_S (jm_Aw base) s.heap H1 locs1 → W p l e R s m args below meth c H1 locs1 (h.2.2 - c0) (h.2.2 - c0) Q (F0 m (pc + 3) ls st')) : W p l e R s m args below meth c H locs (h.2.2 - c0) (h.2.2 - c0) Q (F0 m pc ls (.int nn :: .int dp :: .ref b :: .int sp :: .ref a :: st')) := by
  have hcat := jm_cats st'
  have nw : nativeFrameWords "java/lang/System" "arraycopy" 5 ≤ 40 := by decide
  obtain ⟨hbb, hblt, hc1⟩ := hR.2.2.1 _ _ hb
  have hc1 : H[b]? = some (vp_cell (dA 1) (M, .inl g)) := hc1
  intro T9 hT X9
  obtain ⟨-, k0, hk0, cm0, hkk0⟩ := ((K.1.2 1 _ (jm_tys_at rfl)).1 N (fun j => .int (f j)))
  obtain ⟨-, k1, hk1, cm1, hkk1⟩ := ((K.1.2 1 _ (jm_tys_at rfl)).1 M (fun j => .int (g j)))
  have hsn : sp.toInt = (sp.toNatClampNeg : Int) := by show sp.toInt = ((sp.toInt.toNat : Nat) : Int); omega
  have hdn : dp.toInt = (dp.toNatClampNeg : Int) := by show dp.toInt = ((dp.toInt.toNat : Nat) : Int); omega
  have hnn : nn.toInt = (nn.toNatClampNeg : Int) := by show nn.toInt = ((nn.toInt.toNat : Nat) : Int); omega
  have h4' : sp.toNatClampNeg + nn.toNatClampNeg ≤ N := by omega
  obtain ⟨vm', X', step⟩ := X9.arraycopy X.1 X.2.2.2.2.1 (X.2.2.2.2.2 _ w.1) (X.2.2.2.2.2 _ w.2.1) (X.2.2.2.2.2 _ w.2.2.1) (X.2.2.2.2.2 _ w.2.2.2) (src := a) (dst := b) (cs := vp_cell (dA 1) (N, .inl f)) (cd := vp_cell (dA 1) (M, .inl g)) (srcPos := sp) (destPos := dp) (n := nn) (by rw [hT]; exact hca) (by rw [hT]; exact hc1)
    (fun _ h => by cases h) (fun _ h => by cases h) (fun h => by cases h) (fun h => by cases h) hk0 hk1 hkk0 hkk1 (by first | rfl | decide) (jm_i32 hs0) (jm_i32 hd0) (jm_i32 hn0)
    (by rw [hsn, hnn]; show ¬ _ > ((arrV (dA 1) N (fun j => .int (f j))).slots.size : Int); rw [arrV_size]; omega)
    (by rw [hdn, hnn]; show ¬ _ > ((arrV (dA 1) M (fun j => .int (g j))).slots.size : Int); rw [arrV_size]; omega)
    (fun vm₁ hal i hi => by
      have e : (vp_cell (dA 1) (N, .inl f)).slots.getD (sp.toNatClampNeg + i) .null = .int (f (sp.toNatClampNeg + i)) := by
        show (arrV (dA 1) N (fun j => .int (f j))).slots.getD _ _ = _
        rw [Array.getD_eq_getD_getElem?, arrV_read _ _ (by omega)]
        rfl
      rw [e]
      exact ⟨hfit i hi, trivial⟩)
    (g := F0 m pc ls (.int nn :: .int dp :: .ref b :: .int sp :: .ref a :: st')) rfl (by rw [X.2.2.2.1]; exact hls) (rest := st') rfl (by rw [X.2.1]; exact hd) hR1.1 (by show 2 * 0 + _ + _ ≤ _; omega)
  have e1 : copied (vp_cell (dA 1) (N, .inl f)) (vp_cell (dA 1) (M, .inl g)) sp dp nn = vp_cell (dA 1) (M, .inl (jm_cpy f g sp.toInt.toNat dp.toInt.toNat nn.toInt.toNat)) := va_copied (fun z => .int z) (dA 1) (dA 1) f g h4'
  rw [e1] at X' step
  have hl : b < H.size := (Array.getElem?_eq_some_iff.mp hc1).1
  generalize hcn : vp_cell (dA 1) (M, .inl (jm_cpy f g sp.toInt.toNat dp.toInt.toNat nn.toInt.toNat)) = cn at X' step
  have hheap : ((T9.setVm vm').setCell b cn).heap = H.setIfInBounds b cn := by rw [← hT]; rfl
  have oq : ∀ q : Nat, q ≠ b → (H.setIfInBounds b cn)[q]? = H[q]? := fun q hq => by simp [Array.getElem?_setIfInBounds, Ne.symm hq]
  obtain ⟨t, a1, b1⟩ := k _ _ (hR.upd hb (by simp) oq ⟨hblt, (show (H.setIfInBounds b cn)[b]? = some _ by rw [hcn]; simp [Array.getElem?_setIfInBounds, hl])⟩) ⟨by simp; exact hS.1, fun q g1 g2 => by
      rw [oq q (fun e => g2 (by rw [e]; exact hbb))]
      exact hS.2.1 q g1 g2, fun q hq => by
      rcases List.mem_append.mp hq with h | h
      · exact hS.2.2 q h
      · obtain ⟨z, -, hz⟩ := List.mem_map.mp h
        rw [← hz]
        exact hbb⟩ _ hheap X'
  exact ⟨t, step t a1, b1⟩
theorem jm_w_copyQ {x : Nat} (X : jm_cx p s m args meth c mi) (K : jm_K D dA G s) {a b : Nat} {sp dp nn : Int32} {N M : Nat} {f g : Nat → Option Nat} {H : Heap} {locs : List Loc} {ls : Array Slot} (w : (Jvm.Cond.methodLink (jm_onm (jm_own mi)) x arraycopyName) ∈ lw_all ∧ (Jvm.Cond.native arraycopyName) ∈ lw_all ∧ (Jvm.Cond.static arraycopyName) ∈ lw_all ∧ (Jvm.Cond.initialized "java/lang/System") ∈ lw_all) (hR1 : 1 ≤ R.frames ∧ 100 ≤ R.locals) (hd : decode (jm_code mi) pc = .ok (.invokestatic x, 3)) (hls : ls.size = jm_mxl mi) (hlen : st'.length ≤ 4) (hR : jm_rep D dA base G h H) (hS : va_S (jm_Aw base) s.heap H locs) (hca : H[a]? = some (vp_cell (dA 5) (N, .inr (.inr (.inr (.inr f)))))) (hb : h.1 b = some (.inr (5, M, .inr (.inr (.inr (.inr g)))))) (hs0 : 0 ≤ sp.toInt) (hd0 : 0 ≤ dp.toInt) (hn0 : 0 ≤ nn.toInt) (h4 : sp.toInt + nn.toInt ≤ N) (h5 : dp.toInt + nn.toInt ≤ M) (hel : ∀ i : Nat, i < nn.toNatClampNeg → ∀ y : Nat, f (sp.toNatClampNeg + i) = some y → va_Any "java/lang/Object" s H y)
    (k : ∀ (H1 : Heap) (locs1 : List Loc), jm_rep D dA base G (jm_upd h b (.inr (5, M, .inr (.inr (.inr (.inr (jm_cpy f g sp.toInt.toNat dp.toInt.toNat nn.toInt.toNat))))))) H1 → va_S (jm_Aw base) s.heap H1 locs1 → W p l e R s m args below meth c H1 locs1 (h.2.2 - c0) (h.2.2 - c0) Q (F0 m (pc + 3) ls st')) : W p l e R s m args below meth c H locs (h.2.2 - c0) (h.2.2 - c0) Q (F0 m pc ls (.int nn :: .int dp :: .ref b :: .int sp :: .ref a :: st')) := by
  have hcat := jm_cats st'
  have nw : nativeFrameWords "java/lang/System" "arraycopy" 5 ≤ 40 := by decide
  obtain ⟨hbb, hblt, hc1⟩ := hR.2.2.1 _ _ hb
  have hc1 : H[b]? = some (vp_cell (dA 5) (M, .inr (.inr (.inr (.inr g))))) := hc1
  intro T9 hT X9
  obtain ⟨-, k0, hk0, cm0, hkk0⟩ := ((K.1.2 5 _ (jm_tys_at rfl)).1 N (fun j => va_rf (f j)))
  obtain ⟨-, k1, hk1, cm1, hkk1⟩ := ((K.1.2 5 _ (jm_tys_at rfl)).1 M (fun j => va_rf (g j)))
  have hsn : sp.toInt = (sp.toNatClampNeg : Int) := by show sp.toInt = ((sp.toInt.toNat : Nat) : Int); omega
  have hdn : dp.toInt = (dp.toNatClampNeg : Int) := by show dp.toInt = ((dp.toInt.toNat : Nat) : Int); omega
  have hnn : nn.toInt = (nn.toNatClampNeg : Int) := by show nn.toInt = ((nn.toInt.toNat : Nat) : Int); omega
  have h4' : sp.toNatClampNeg + nn.toNatClampNeg ≤ N := by omega
  obtain ⟨vm', X', step⟩ := X9.arraycopy X.1 X.2.2.2.2.1 (X.2.2.2.2.2 _ w.1) (X.2.2.2.2.2 _ w.2.1) (X.2.2.2.2.2 _ w.2.2.1) (X.2.2.2.2.2 _ w.2.2.2) (src := a) (dst := b) (cs := vp_cell (dA 5) (N, .inr (.inr (.inr (.inr f))))) (cd := vp_cell (dA 5) (M, .inr (.inr (.inr (.inr g))))) (srcPos := sp) (destPos := dp) (n := nn) (by rw [hT]; exact hca) (by rw [hT]; exact hc1)
    (fun _ h => by cases h) (fun _ h => by cases h) (fun h => by cases h) (fun h => by cases h) hk0 hk1 hkk0 hkk1 (by first | rfl | decide) (jm_i32 hs0) (jm_i32 hd0) (jm_i32 hn0)
    (by rw [hsn, hnn]; show ¬ _ > ((arrV (dA 5) N (fun j => va_rf (f j))).slots.size : Int); rw [arrV_size]; omega)
    (by rw [hdn, hnn]; show ¬ _ > ((arrV (dA 5) M (fun j => va_rf (g j))).slots.size : Int); rw [arrV_size]; omega)
    (fun vm₁ hal i hi => by
      have e : (vp_cell (dA 5) (N, .inr (.inr (.inr (.inr f))))).slots.getD (sp.toNatClampNeg + i) .null = va_rf (f (sp.toNatClampNeg + i)) := by
        show (arrV (dA 5) N (fun j => va_rf (f j))).slots.getD _ _ = _
        rw [Array.getD_eq_getD_getElem?, arrV_read _ _ (by omega)]
        rfl
      rw [e]
      cases hy : f (sp.toNatClampNeg + i) with
      | none => exact ⟨rfl, trivial⟩
      | some y =>
        obtain ⟨cellV, g1, g2, ⟨kC, hkC⟩, hasg⟩ := hel i hi y hy
        obtain ⟨kA, comp, r1, r2, r3, -⟩ := (K.1.2 5 _ (jm_tys_at rfl)).2
        cases hk1.symm.trans r1
        cases hkk1.symm.trans r2
        obtain ⟨kE, hkE, -⟩ := Vm.findClass_spec r3
        obtain ⟨kC', hkC', -⟩ := hal.2.2 _ _ hkC
        obtain ⟨kE', hkE', -⟩ := hal.2.2 _ _ hkE
        refine ⟨rfl, cellV, (show T9.heap[y]? = some cellV by rw [hT]; exact g1), (fun q h => by rw [h] at g2; cases g2), ⟨kC', hkC'⟩, ?_, ?_⟩
        · exact ⟨kE', hkE'⟩
        · show vm₁.assignable _ _ = true
          rw [hal.assignable]
          exact hasg _ r3)
    (g := F0 m pc ls (.int nn :: .int dp :: .ref b :: .int sp :: .ref a :: st')) rfl (by rw [X.2.2.2.1]; exact hls) (rest := st') rfl (by rw [X.2.1]; exact hd) hR1.1 (by show 2 * 0 + _ + _ ≤ _; omega)
  have e1 : copied (vp_cell (dA 5) (N, .inr (.inr (.inr (.inr f))))) (vp_cell (dA 5) (M, .inr (.inr (.inr (.inr g))))) sp dp nn = vp_cell (dA 5) (M, .inr (.inr (.inr (.inr (jm_cpy f g sp.toInt.toNat dp.toInt.toNat nn.toInt.toNat))))) := va_copied (fun z => va_rf z) (dA 5) (dA 5) f g h4'
  rw [e1] at X' step
  have hl : b < H.size := (Array.getElem?_eq_some_iff.mp hc1).1
  generalize hcn : vp_cell (dA 5) (M, .inr (.inr (.inr (.inr (jm_cpy f g sp.toInt.toNat dp.toInt.toNat nn.toInt.toNat))))) = cn at X' step
  have hheap : ((T9.setVm vm').setCell b cn).heap = H.setIfInBounds b cn := by rw [← hT]; rfl
  have oq : ∀ q : Nat, q ≠ b → (H.setIfInBounds b cn)[q]? = H[q]? := fun q hq => by simp [Array.getElem?_setIfInBounds, Ne.symm hq]
  obtain ⟨t, a1, b1⟩ := k _ _ (hR.upd hb (by simp) oq ⟨hblt, (show (H.setIfInBounds b cn)[b]? = some _ by rw [hcn]; simp [Array.getElem?_setIfInBounds, hl])⟩) ⟨by simp; exact hS.1, fun q g1 g2 => by
      rw [oq q (fun e => g2 (by rw [e]; exact hbb))]
      exact hS.2.1 q g1 g2, fun q hq => by
      rcases List.mem_append.mp hq with h | h
      · exact hS.2.2 q h
      · obtain ⟨z, -, hz⟩ := List.mem_map.mp h
        rw [← hz]
        exact hbb⟩ _ hheap X'
  exact ⟨t, step t a1, b1⟩
theorem jm_w_copy {x : Nat} (X : jm_cx p s m args meth c mi) (K : jm_K D dA G s) (hTq : jm_Tq T = jm_asg) (Vq : jm_Vq) (Vi : ∀ x n tg, jm_Ti T x = some (4, n, tg) → n = 5 ∧ (Jvm.Cond.methodLink (jm_onm (jm_own mi)) x arraycopyName) ∈ lw_all ∧ (Jvm.Cond.native arraycopyName) ∈ lw_all ∧ (Jvm.Cond.static arraycopyName) ∈ lw_all ∧ (Jvm.Cond.initialized "java/lang/System") ∈ lw_all) (hR1 : 1 ≤ R.frames ∧ 100 ≤ R.locals) {n : Nat} {tg : List (Nat × Nat)} (hi : jm_Ti T x = some (4, n, tg)) (hd : decode (jm_code mi) pc = .ok (.invokestatic x, 3)) (he : jm_do [0, 4] (jm_Tq T) G 4 n tg (pc + 3) L st h = some (.inl (pc', L', st', h'))) (k : jm_Wf p l e R s m args below meth c Q D dA base G c0 mi pc' L' st' h') : jm_Wf p l e R s m args below meth c Q D dA base G c0 mi pc L st h := by
  intro H locs ls hR hS hL hl0 hc0
  obtain ⟨rfl, w⟩ := Vi x n tg hi
  obtain ⟨a, sp, b, dp, nn, r, h9, hp, hcp, hx⟩ := jm_do4 he
  cases hx
  obtain ⟨e1, e2, e3⟩ := jm_pop_of hp
  have e1 : st = .int nn :: .int dp :: .ref b :: .int sp :: .ref a :: st' := e1
  subst e1
  unfold jm_copy at hcp
  split at hcp
  · rename_i t N f u M g ha hb
    split at hcp
    · rename_i q
      cases hcp
      obtain ⟨q1, q2, q3, q4, q5, q6, q7, q8⟩ := q
      have q1 := eq_of_beq q1
      subst q2; subst q1
      exact jm_w_copyB X K w hR1 hd (by rw [← hl0]; exact hL.1) e3 hR hS (hR.look ha).2 hb q3 q4 q5 q6 q7 q8 (fun H1 locs1 r1 r2 => k H1 locs1 ls r1 r2 hL hl0 hc0)
    · cases hcp
  · rename_i t N f u M g ha hb
    split at hcp
    · rename_i q
      cases hcp
      obtain ⟨q1, q2, q3, q4, q5, q6, q7, q8⟩ := q
      have q1 := eq_of_beq q1
      subst q2; subst q1
      refine jm_w_copyQ X K w hR1 hd (by rw [← hl0]; exact hL.1) e3 hR hS (hR.look ha).2 hb q3 q4 q5 q6 q7 (fun i hi y hy => ?_) (fun H1 locs1 r1 r2 => k H1 locs1 ls r1 r2 hL hl0 hc0)
      have hok := q8 i hi
      have hy : f (sp.toInt.toNat + i) = some y := hy
      rw [hy] at hok
      simp only [jm_okv] at hok
      split at hok
      · rename_i cy hcy
        rw [hTq] at hok
        obtain ⟨E, hE, hk9⟩ := Vq _ _ hok
        have hE9 : E = "java/lang/Object" := by
          have : jm_aty[5]? = some (.object "java/lang/Object") := rfl
          rw [this] at hE
          cases hE
          rfl
        subst hE9
        rcases hk9 with hk9 | ⟨kd, hk9, hkc⟩
        · omega
        · have : jm_kd cy = kd := by omega
          subst this
          exact jm_cls K (hR.look hcy) hkc
      · cases hok
    · cases hcp
  · cases hcp
end JMNT
