/-! THE INSTRUCTIONS THAT TOUCH NO CELL: each from the kit's row (printed by gen/simple.py) -/
/-- what is fixed while a method runs -/
def jm_cx (p : Program) (s : State) (m : MethodId) (args : Array Value) (meth : Method) (c : Code) (mi : Nat) : Prop := p.tables.exec = Jvm.exec ∧ c.code = jm_code mi ∧ meth.locks = false ∧ c.maxLocals = jm_mxl mi ∧ s.vm.findClass (jm_onm (jm_own mi)) = some m.cls ∧ (∀ w ∈ lw_all, w.before args s = true)
/-- the frame of method mi at pc with these locals, stack, cells comes to Q -/
def jm_Wf (p : Program) (l : Launch) (e : Env) (R : Room) (s : State) (m : MethodId) (args : Array Value) (below : List Frame) (meth : Method) (c : Code) (Q : State → Prop) (D : va_G) (dA : Nat → ClassId) (base : Nat) (G : jm_G) (c0 mi pc : Nat) (L : jm_L) (st : List Value) (h : jm_H) : Prop :=
  ∀ (H : Heap) (locs : List Loc) (ls : Array Slot), jm_rep D dA base G h H → va_S (jm_Aw base) s.heap H locs → jm_lr L ls → L.length = jm_mxl mi → c0 ≤ h.2.2 → W p l e R s m args below meth c H locs (h.2.2 - c0) (h.2.2 - c0) Q (F0 m pc ls st)
theorem jm_int1_inl {st : List Value} {f : Int32 → Value} {pc pc' : Nat} {L L' : jm_L} {h h' : jm_H} {st' : List Value} (he : jm_int1 st f pc L h = some (.inl (pc', L', st', h'))) : ∃ x r, st = .int x :: r ∧ pc' = pc ∧ L' = L ∧ st' = f x :: r ∧ h' = h := by
  unfold jm_int1 at he
  split at he
  · cases he; exact ⟨_, _, rfl, rfl, rfl, rfl, rfl⟩
  · cases he
theorem jm_int2_inl {st : List Value} {f : Int32 → Int32 → Int32} {pc pc' : Nat} {L L' : jm_L} {h h' : jm_H} {st' : List Value} (he : jm_int2 st f pc L h = some (.inl (pc', L', st', h'))) : ∃ x y r, st = .int y :: .int x :: r ∧ pc' = pc ∧ L' = L ∧ st' = .int (f x y) :: r ∧ h' = h := by
  unfold jm_int2 at he
  split at he
  · cases he; exact ⟨_, _, _, rfl, rfl, rfl, rfl, rfl⟩
  · cases he
theorem jm_lng2_inl {st : List Value} {f : Int64 → Int64 → Int64} {pc pc' : Nat} {L L' : jm_L} {h h' : jm_H} {st' : List Value} (he : jm_lng2 st f pc L h = some (.inl (pc', L', st', h'))) : ∃ x y r, st = .long y :: .long x :: r ∧ pc' = pc ∧ L' = L ∧ st' = .long (f x y) :: r ∧ h' = h := by
  unfold jm_lng2 at he
  split at he
  · cases he; exact ⟨_, _, _, rfl, rfl, rfl, rfl, rfl⟩
  · cases he
theorem jm_push_inl {x : Option Value} {pc pc' : Nat} {L L' : jm_L} {h h' : jm_H} {st st' : List Value} (he : jm_push x pc L st h = some (.inl (pc', L', st', h'))) : ∃ v, x = some v ∧ pc' = pc ∧ L' = L ∧ st' = v :: st ∧ h' = h := by
  unfold jm_push at he
  split at he
  · cases he; exact ⟨_, rfl, rfl, rfl, rfl, rfl⟩
  · cases he
theorem jm_fnx_inl {ok : Bool} {pc pc' : Nat} {L L' : jm_L} {h h' : jm_H} {st st' : List Value} (he : jm_fnx ok pc L st h = some (.inl (pc', L', st', h'))) : ok = true ∧ pc' = pc ∧ L' = L ∧ st' = st ∧ h' = h := by
  unfold jm_fnx at he
  split at he
  · rename_i q; cases he; exact ⟨q, rfl, rfl, rfl, rfl⟩
  · cases he
theorem jm_ld_inl {L L' : jm_L} {i pc pc' : Nat} {ok : Value → Bool} {st st' : List Value} {h h' : jm_H} (he : jm_ld L i ok pc st h = some (.inl (pc', L', st', h'))) : ∃ v, jm_get L i = some v ∧ ok v = true ∧ pc' = pc ∧ L' = L ∧ st' = v :: st ∧ h' = h := by
  unfold jm_ld at he
  split at he
  · split at he
    · rename_i v q z; cases he; exact ⟨v, q, z, rfl, rfl, rfl, rfl⟩
    · cases he
  · cases he
theorem jm_sto_inl {L L' : jm_L} {i pc pc' : Nat} {ok : Value → Bool} {st st' : List Value} {h h' : jm_H} (he : jm_sto L i ok pc st h = some (.inl (pc', L', st', h'))) : ∃ v r, st = v :: r ∧ ok v = true ∧ i < L.length ∧ pc' = pc ∧ L' = jm_st1 L i v ∧ st' = r ∧ h' = h := by
  unfold jm_sto at he
  split at he
  · split at he
    · rename_i v r z; cases he; exact ⟨v, _, rfl, z.1, z.2, rfl, rfl, rfl, rfl⟩
    · cases he
  · cases he
theorem jm_stoJ_inl {L L' : jm_L} {i pc pc' : Nat} {st st' : List Value} {h h' : jm_H} (he : jm_stoJ L i pc st h = some (.inl (pc', L', st', h'))) : ∃ x r, st = .long x :: r ∧ i + 1 < L.length ∧ pc' = pc ∧ L' = jm_st2 L i (.long x) ∧ st' = r ∧ h' = h := by
  unfold jm_stoJ at he
  split at he
  · split at he
    · rename_i z; cases he; exact ⟨_, _, rfl, z, rfl, rfl, rfl, rfl⟩
    · cases he
  · cases he
theorem jm_br_inl {pc pc' : Nat} {off : Int} {L L' : jm_L} {st st' : List Value} {h h' : jm_H} (he : jm_br pc off L st h = some (.inl (pc', L', st', h'))) : (pc : Int) + off = (pc' : Int) ∧ L' = L ∧ st' = st ∧ h' = h := by
  unfold jm_br at he
  split at he
  · rename_i t q; cases he; exact ⟨q, rfl, rfl, rfl⟩
  · cases he
theorem jm_cbr_inl {b : Bool} {pc nxt pc' : Nat} {off : Int} {L L' : jm_L} {st st' : List Value} {h h' : jm_H} (he : jm_cbr b pc nxt off L st h = some (.inl (pc', L', st', h'))) : ∃ t : Nat, (pc : Int) + off = (t : Int) ∧ (b = true → pc' = t) ∧ (b = false → pc' = nxt) ∧ L' = L ∧ st' = st ∧ h' = h := by
  unfold jm_cbr at he
  split at he
  · rename_i t q
    refine ⟨t, q, ?_⟩
    cases b with
    | true => cases he; exact ⟨fun _ => rfl, (fun z => by cases z), rfl, rfl, rfl⟩
    | false => cases he; exact ⟨(fun z => by cases z), fun _ => rfl, rfl, rfl, rfl⟩
  · cases he
theorem jm_isI_of {v : Value} (h : jm_isI v = true) : ∃ x, v = .int x := by cases v <;> simp_all [jm_isI]
theorem jm_isJ_of {v : Value} (h : jm_isJ v = true) : ∃ x, v = .long x := by cases v <;> simp_all [jm_isJ]
theorem jm_isF_of {v : Value} (h : jm_isF v = true) : ∃ x, v = .float x := by cases v <;> simp_all [jm_isF]
theorem jm_isA_of {v : Value} (h : jm_isA v = true) : (∃ x, v = .ref x) ∨ v = .null := by cases v <;> simp_all [jm_isA]
section JMS
variable {p : Program} {l : Launch} {e : Env} {R : Room} {s : State} {m : MethodId} {args : Array Value} {below : List Frame} {meth : Method} {c : Code} {Q : State → Prop} {D : va_G} {dA : Nat → ClassId} {base : Nat} {G : jm_G} {c0 mi pc pc' len fa : Nat} {T : jm_T} {L L' : jm_L} {st st' : List Value} {h h' : jm_H}

theorem jm_w_iadd (X : jm_cx p s m args meth c mi) (hd : decode (jm_code mi) pc = .ok (.iadd, len)) (hl : jm_lok (.iadd) len = true) (he : jm_ex T G fa pc len (.iadd) L st h = some (.inl (pc', L', st', h'))) (k : jm_Wf p l e R s m args below meth c Q D dA base G c0 mi pc' L' st' h') : jm_Wf p l e R s m args below meth c Q D dA base G c0 mi pc L st h := by
  have hn := eq_of_beq hl
  subst hn
  intro H locs ls hR hS hL hl0 hc0
  obtain ⟨x, y, r, rfl, rfl, rfl, rfl, rfl⟩ := jm_int2_inl he
  exact lv_iadd X.1 X.2.1 hd (k H locs ls hR hS hL hl0 hc0)
theorem jm_w_isub (X : jm_cx p s m args meth c mi) (hd : decode (jm_code mi) pc = .ok (.isub, len)) (hl : jm_lok (.isub) len = true) (he : jm_ex T G fa pc len (.isub) L st h = some (.inl (pc', L', st', h'))) (k : jm_Wf p l e R s m args below meth c Q D dA base G c0 mi pc' L' st' h') : jm_Wf p l e R s m args below meth c Q D dA base G c0 mi pc L st h := by
  have hn := eq_of_beq hl
  subst hn
  intro H locs ls hR hS hL hl0 hc0
  obtain ⟨x, y, r, rfl, rfl, rfl, rfl, rfl⟩ := jm_int2_inl he
  exact lv_isub X.1 X.2.1 hd (k H locs ls hR hS hL hl0 hc0)
theorem jm_w_imul (X : jm_cx p s m args meth c mi) (hd : decode (jm_code mi) pc = .ok (.imul, len)) (hl : jm_lok (.imul) len = true) (he : jm_ex T G fa pc len (.imul) L st h = some (.inl (pc', L', st', h'))) (k : jm_Wf p l e R s m args below meth c Q D dA base G c0 mi pc' L' st' h') : jm_Wf p l e R s m args below meth c Q D dA base G c0 mi pc L st h := by
  have hn := eq_of_beq hl
  subst hn
  intro H locs ls hR hS hL hl0 hc0
  obtain ⟨x, y, r, rfl, rfl, rfl, rfl, rfl⟩ := jm_int2_inl he
  exact lv_imul X.1 X.2.1 hd (k H locs ls hR hS hL hl0 hc0)
theorem jm_w_iand (X : jm_cx p s m args meth c mi) (hd : decode (jm_code mi) pc = .ok (.iand, len)) (hl : jm_lok (.iand) len = true) (he : jm_ex T G fa pc len (.iand) L st h = some (.inl (pc', L', st', h'))) (k : jm_Wf p l e R s m args below meth c Q D dA base G c0 mi pc' L' st' h') : jm_Wf p l e R s m args below meth c Q D dA base G c0 mi pc L st h := by
  have hn := eq_of_beq hl
  subst hn
  intro H locs ls hR hS hL hl0 hc0
  obtain ⟨x, y, r, rfl, rfl, rfl, rfl, rfl⟩ := jm_int2_inl he
  exact lv_iand X.1 X.2.1 hd (k H locs ls hR hS hL hl0 hc0)
theorem jm_w_ior (X : jm_cx p s m args meth c mi) (hd : decode (jm_code mi) pc = .ok (.ior, len)) (hl : jm_lok (.ior) len = true) (he : jm_ex T G fa pc len (.ior) L st h = some (.inl (pc', L', st', h'))) (k : jm_Wf p l e R s m args below meth c Q D dA base G c0 mi pc' L' st' h') : jm_Wf p l e R s m args below meth c Q D dA base G c0 mi pc L st h := by
  have hn := eq_of_beq hl
  subst hn
  intro H locs ls hR hS hL hl0 hc0
  obtain ⟨x, y, r, rfl, rfl, rfl, rfl, rfl⟩ := jm_int2_inl he
  exact lv_ior X.1 X.2.1 hd (k H locs ls hR hS hL hl0 hc0)
theorem jm_w_ixor (X : jm_cx p s m args meth c mi) (hd : decode (jm_code mi) pc = .ok (.ixor, len)) (hl : jm_lok (.ixor) len = true) (he : jm_ex T G fa pc len (.ixor) L st h = some (.inl (pc', L', st', h'))) (k : jm_Wf p l e R s m args below meth c Q D dA base G c0 mi pc' L' st' h') : jm_Wf p l e R s m args below meth c Q D dA base G c0 mi pc L st h := by
  have hn := eq_of_beq hl
  subst hn
  intro H locs ls hR hS hL hl0 hc0
  obtain ⟨x, y, r, rfl, rfl, rfl, rfl, rfl⟩ := jm_int2_inl he
  exact lv_ixor X.1 X.2.1 hd (k H locs ls hR hS hL hl0 hc0)
theorem jm_w_ishl (X : jm_cx p s m args meth c mi) (hd : decode (jm_code mi) pc = .ok (.ishl, len)) (hl : jm_lok (.ishl) len = true) (he : jm_ex T G fa pc len (.ishl) L st h = some (.inl (pc', L', st', h'))) (k : jm_Wf p l e R s m args below meth c Q D dA base G c0 mi pc' L' st' h') : jm_Wf p l e R s m args below meth c Q D dA base G c0 mi pc L st h := by
  have hn := eq_of_beq hl
  subst hn
  intro H locs ls hR hS hL hl0 hc0
  obtain ⟨x, y, r, rfl, rfl, rfl, rfl, rfl⟩ := jm_int2_inl he
  exact lv_ishl X.1 X.2.1 hd (k H locs ls hR hS hL hl0 hc0)
theorem jm_w_ishr (X : jm_cx p s m args meth c mi) (hd : decode (jm_code mi) pc = .ok (.ishr, len)) (hl : jm_lok (.ishr) len = true) (he : jm_ex T G fa pc len (.ishr) L st h = some (.inl (pc', L', st', h'))) (k : jm_Wf p l e R s m args below meth c Q D dA base G c0 mi pc' L' st' h') : jm_Wf p l e R s m args below meth c Q D dA base G c0 mi pc L st h := by
  have hn := eq_of_beq hl
  subst hn
  intro H locs ls hR hS hL hl0 hc0
  obtain ⟨x, y, r, rfl, rfl, rfl, rfl, rfl⟩ := jm_int2_inl he
  exact lv_ishr X.1 X.2.1 hd (k H locs ls hR hS hL hl0 hc0)
theorem jm_w_ladd (X : jm_cx p s m args meth c mi) (hd : decode (jm_code mi) pc = .ok (.ladd, len)) (hl : jm_lok (.ladd) len = true) (he : jm_ex T G fa pc len (.ladd) L st h = some (.inl (pc', L', st', h'))) (k : jm_Wf p l e R s m args below meth c Q D dA base G c0 mi pc' L' st' h') : jm_Wf p l e R s m args below meth c Q D dA base G c0 mi pc L st h := by
  have hn := eq_of_beq hl
  subst hn
  intro H locs ls hR hS hL hl0 hc0
  obtain ⟨x, y, r, rfl, rfl, rfl, rfl, rfl⟩ := jm_lng2_inl he
  exact lv_ladd X.1 X.2.1 hd (k H locs ls hR hS hL hl0 hc0)
theorem jm_w_lsub (X : jm_cx p s m args meth c mi) (hd : decode (jm_code mi) pc = .ok (.lsub, len)) (hl : jm_lok (.lsub) len = true) (he : jm_ex T G fa pc len (.lsub) L st h = some (.inl (pc', L', st', h'))) (k : jm_Wf p l e R s m args below meth c Q D dA base G c0 mi pc' L' st' h') : jm_Wf p l e R s m args below meth c Q D dA base G c0 mi pc L st h := by
  have hn := eq_of_beq hl
  subst hn
  intro H locs ls hR hS hL hl0 hc0
  obtain ⟨x, y, r, rfl, rfl, rfl, rfl, rfl⟩ := jm_lng2_inl he
  exact lv_lsub X.1 X.2.1 hd (k H locs ls hR hS hL hl0 hc0)
theorem jm_w_lmul (X : jm_cx p s m args meth c mi) (hd : decode (jm_code mi) pc = .ok (.lmul, len)) (hl : jm_lok (.lmul) len = true) (he : jm_ex T G fa pc len (.lmul) L st h = some (.inl (pc', L', st', h'))) (k : jm_Wf p l e R s m args below meth c Q D dA base G c0 mi pc' L' st' h') : jm_Wf p l e R s m args below meth c Q D dA base G c0 mi pc L st h := by
  have hn := eq_of_beq hl
  subst hn
  intro H locs ls hR hS hL hl0 hc0
  obtain ⟨x, y, r, rfl, rfl, rfl, rfl, rfl⟩ := jm_lng2_inl he
  exact lv_lmul X.1 X.2.1 hd (k H locs ls hR hS hL hl0 hc0)
theorem jm_w_land (X : jm_cx p s m args meth c mi) (hd : decode (jm_code mi) pc = .ok (.land, len)) (hl : jm_lok (.land) len = true) (he : jm_ex T G fa pc len (.land) L st h = some (.inl (pc', L', st', h'))) (k : jm_Wf p l e R s m args below meth c Q D dA base G c0 mi pc' L' st' h') : jm_Wf p l e R s m args below meth c Q D dA base G c0 mi pc L st h := by
  have hn := eq_of_beq hl
  subst hn
  intro H locs ls hR hS hL hl0 hc0
  obtain ⟨x, y, r, rfl, rfl, rfl, rfl, rfl⟩ := jm_lng2_inl he
  exact lv_land X.1 X.2.1 hd (k H locs ls hR hS hL hl0 hc0)
theorem jm_w_lor (X : jm_cx p s m args meth c mi) (hd : decode (jm_code mi) pc = .ok (.lor, len)) (hl : jm_lok (.lor) len = true) (he : jm_ex T G fa pc len (.lor) L st h = some (.inl (pc', L', st', h'))) (k : jm_Wf p l e R s m args below meth c Q D dA base G c0 mi pc' L' st' h') : jm_Wf p l e R s m args below meth c Q D dA base G c0 mi pc L st h := by
  have hn := eq_of_beq hl
  subst hn
  intro H locs ls hR hS hL hl0 hc0
  obtain ⟨x, y, r, rfl, rfl, rfl, rfl, rfl⟩ := jm_lng2_inl he
  exact lv_lor X.1 X.2.1 hd (k H locs ls hR hS hL hl0 hc0)
theorem jm_w_lxor (X : jm_cx p s m args meth c mi) (hd : decode (jm_code mi) pc = .ok (.lxor, len)) (hl : jm_lok (.lxor) len = true) (he : jm_ex T G fa pc len (.lxor) L st h = some (.inl (pc', L', st', h'))) (k : jm_Wf p l e R s m args below meth c Q D dA base G c0 mi pc' L' st' h') : jm_Wf p l e R s m args below meth c Q D dA base G c0 mi pc L st h := by
  have hn := eq_of_beq hl
  subst hn
  intro H locs ls hR hS hL hl0 hc0
  obtain ⟨x, y, r, rfl, rfl, rfl, rfl, rfl⟩ := jm_lng2_inl he
  exact lv_lxor X.1 X.2.1 hd (k H locs ls hR hS hL hl0 hc0)
theorem jm_w_nop (X : jm_cx p s m args meth c mi) (hd : decode (jm_code mi) pc = .ok (.nop, len)) (hl : jm_lok .nop len = true) (k : jm_Wf p l e R s m args below meth c Q D dA base G c0 mi (pc + len) L st h) : jm_Wf p l e R s m args below meth c Q D dA base G c0 mi pc L st h := by
  have hn := eq_of_beq hl
  subst hn
  intro H locs ls hR hS hL hl0 hc0
  have kk := k H locs ls hR hS hL hl0 hc0
  intro T9 hT X9
  obtain ⟨t, a, b⟩ := kk T9 hT X9
  refine ⟨t, ?_, b⟩
  jvm_step X9.here [X9.here.top, X.1, X.2.1, hd]
  exact a
theorem jm_w_iushr (X : jm_cx p s m args meth c mi) (hd : decode (jm_code mi) pc = .ok (.iushr, len)) (hl : jm_lok (.iushr) len = true) (he : jm_ex T G fa pc len (.iushr) L st h = some (.inl (pc', L', st', h'))) (k : jm_Wf p l e R s m args below meth c Q D dA base G c0 mi pc' L' st' h') : jm_Wf p l e R s m args below meth c Q D dA base G c0 mi pc L st h := by
  have hn := eq_of_beq hl
  subst hn
  intro H locs ls hR hS hL hl0 hc0
  obtain ⟨x, y, r, rfl, rfl, rfl, rfl, rfl⟩ := jm_int2_inl he
  exact lv_iushr X.1 X.2.1 hd rfl (k H locs ls hR hS hL hl0 hc0)
theorem jm_w_idiv (X : jm_cx p s m args meth c mi) (hd : decode (jm_code mi) pc = .ok (.idiv, len)) (hl : jm_lok (.idiv) len = true) (he : jm_ex T G fa pc len (.idiv) L st h = some (.inl (pc', L', st', h'))) (k : jm_Wf p l e R s m args below meth c Q D dA base G c0 mi pc' L' st' h') : jm_Wf p l e R s m args below meth c Q D dA base G c0 mi pc L st h := by
  have hn := eq_of_beq hl
  subst hn
  intro H locs ls hR hS hL hl0 hc0
  dsimp only [jm_ex] at he
  split at he
  · split at he
    · cases he
    · rename_i q
      cases he
      exact lv_idiv X.1 X.2.1 hd q (k H locs ls hR hS hL hl0 hc0)
  · cases he
theorem jm_w_irem (X : jm_cx p s m args meth c mi) (hd : decode (jm_code mi) pc = .ok (.irem, len)) (hl : jm_lok (.irem) len = true) (he : jm_ex T G fa pc len (.irem) L st h = some (.inl (pc', L', st', h'))) (k : jm_Wf p l e R s m args below meth c Q D dA base G c0 mi pc' L' st' h') : jm_Wf p l e R s m args below meth c Q D dA base G c0 mi pc L st h := by
  have hn := eq_of_beq hl
  subst hn
  intro H locs ls hR hS hL hl0 hc0
  dsimp only [jm_ex] at he
  split at he
  · split at he
    · cases he
    · rename_i q
      cases he
      exact lv_irem X.1 X.2.1 hd q (k H locs ls hR hS hL hl0 hc0)
  · cases he
theorem jm_w_ldiv (X : jm_cx p s m args meth c mi) (hd : decode (jm_code mi) pc = .ok (.ldiv, len)) (hl : jm_lok (.ldiv) len = true) (he : jm_ex T G fa pc len (.ldiv) L st h = some (.inl (pc', L', st', h'))) (k : jm_Wf p l e R s m args below meth c Q D dA base G c0 mi pc' L' st' h') : jm_Wf p l e R s m args below meth c Q D dA base G c0 mi pc L st h := by
  have hn := eq_of_beq hl
  subst hn
  intro H locs ls hR hS hL hl0 hc0
  dsimp only [jm_ex] at he
  split at he
  · split at he
    · cases he
    · rename_i q
      cases he
      exact lv_ldiv X.1 X.2.1 hd q (k H locs ls hR hS hL hl0 hc0)
  · cases he
theorem jm_w_lrem (X : jm_cx p s m args meth c mi) (hd : decode (jm_code mi) pc = .ok (.lrem, len)) (hl : jm_lok (.lrem) len = true) (he : jm_ex T G fa pc len (.lrem) L st h = some (.inl (pc', L', st', h'))) (k : jm_Wf p l e R s m args below meth c Q D dA base G c0 mi pc' L' st' h') : jm_Wf p l e R s m args below meth c Q D dA base G c0 mi pc L st h := by
  have hn := eq_of_beq hl
  subst hn
  intro H locs ls hR hS hL hl0 hc0
  dsimp only [jm_ex] at he
  split at he
  · split at he
    · cases he
    · rename_i q
      cases he
      exact lv_lrem X.1 X.2.1 hd q (k H locs ls hR hS hL hl0 hc0)
  · cases he
theorem jm_w_ineg (X : jm_cx p s m args meth c mi) (hd : decode (jm_code mi) pc = .ok (.ineg, len)) (hl : jm_lok (.ineg) len = true) (he : jm_ex T G fa pc len (.ineg) L st h = some (.inl (pc', L', st', h'))) (k : jm_Wf p l e R s m args below meth c Q D dA base G c0 mi pc' L' st' h') : jm_Wf p l e R s m args below meth c Q D dA base G c0 mi pc L st h := by
  have hn := eq_of_beq hl
  subst hn
  intro H locs ls hR hS hL hl0 hc0
  obtain ⟨x, r, rfl, rfl, rfl, rfl, rfl⟩ := jm_int1_inl he
  exact lv_ineg X.1 X.2.1 hd (k H locs ls hR hS hL hl0 hc0)
theorem jm_w_i2l (X : jm_cx p s m args meth c mi) (hd : decode (jm_code mi) pc = .ok (.i2l, len)) (hl : jm_lok (.i2l) len = true) (he : jm_ex T G fa pc len (.i2l) L st h = some (.inl (pc', L', st', h'))) (k : jm_Wf p l e R s m args below meth c Q D dA base G c0 mi pc' L' st' h') : jm_Wf p l e R s m args below meth c Q D dA base G c0 mi pc L st h := by
  have hn := eq_of_beq hl
  subst hn
  intro H locs ls hR hS hL hl0 hc0
  obtain ⟨x, r, rfl, rfl, rfl, rfl, rfl⟩ := jm_int1_inl he
  exact lv_i2l X.1 X.2.1 hd rfl (k H locs ls hR hS hL hl0 hc0)
theorem jm_w_i2b (X : jm_cx p s m args meth c mi) (hd : decode (jm_code mi) pc = .ok (.i2b, len)) (hl : jm_lok (.i2b) len = true) (he : jm_ex T G fa pc len (.i2b) L st h = some (.inl (pc', L', st', h'))) (k : jm_Wf p l e R s m args below meth c Q D dA base G c0 mi pc' L' st' h') : jm_Wf p l e R s m args below meth c Q D dA base G c0 mi pc L st h := by
  have hn := eq_of_beq hl
  subst hn
  intro H locs ls hR hS hL hl0 hc0
  obtain ⟨x, r, rfl, rfl, rfl, rfl, rfl⟩ := jm_int1_inl he
  exact lv_i2b X.1 X.2.1 hd rfl (k H locs ls hR hS hL hl0 hc0)
theorem jm_w_i2c (X : jm_cx p s m args meth c mi) (hd : decode (jm_code mi) pc = .ok (.i2c, len)) (hl : jm_lok (.i2c) len = true) (he : jm_ex T G fa pc len (.i2c) L st h = some (.inl (pc', L', st', h'))) (k : jm_Wf p l e R s m args below meth c Q D dA base G c0 mi pc' L' st' h') : jm_Wf p l e R s m args below meth c Q D dA base G c0 mi pc L st h := by
  have hn := eq_of_beq hl
  subst hn
  intro H locs ls hR hS hL hl0 hc0
  obtain ⟨x, r, rfl, rfl, rfl, rfl, rfl⟩ := jm_int1_inl he
  exact lv_i2c X.1 X.2.1 hd rfl (k H locs ls hR hS hL hl0 hc0)
theorem jm_w_i2f (X : jm_cx p s m args meth c mi) (hd : decode (jm_code mi) pc = .ok (.i2f, len)) (hl : jm_lok (.i2f) len = true) (he : jm_ex T G fa pc len (.i2f) L st h = some (.inl (pc', L', st', h'))) (k : jm_Wf p l e R s m args below meth c Q D dA base G c0 mi pc' L' st' h') : jm_Wf p l e R s m args below meth c Q D dA base G c0 mi pc L st h := by
  have hn := eq_of_beq hl
  subst hn
  intro H locs ls hR hS hL hl0 hc0
  obtain ⟨x, r, rfl, rfl, rfl, rfl, rfl⟩ := jm_int1_inl he
  exact lv_i2f X.1 X.2.1 hd (k H locs ls hR hS hL hl0 hc0)
theorem jm_w_l2i (X : jm_cx p s m args meth c mi) (hd : decode (jm_code mi) pc = .ok (.l2i, len)) (hl : jm_lok (.l2i) len = true) (he : jm_ex T G fa pc len (.l2i) L st h = some (.inl (pc', L', st', h'))) (k : jm_Wf p l e R s m args below meth c Q D dA base G c0 mi pc' L' st' h') : jm_Wf p l e R s m args below meth c Q D dA base G c0 mi pc L st h := by
  have hn := eq_of_beq hl
  subst hn
  intro H locs ls hR hS hL hl0 hc0
  dsimp only [jm_ex] at he
  split at he
  · cases he; exact lv_l2i X.1 X.2.1 hd rfl (k H locs ls hR hS hL hl0 hc0)
  · cases he
theorem jm_w_f2i (X : jm_cx p s m args meth c mi) (hd : decode (jm_code mi) pc = .ok (.f2i, len)) (hl : jm_lok (.f2i) len = true) (he : jm_ex T G fa pc len (.f2i) L st h = some (.inl (pc', L', st', h'))) (k : jm_Wf p l e R s m args below meth c Q D dA base G c0 mi pc' L' st' h') : jm_Wf p l e R s m args below meth c Q D dA base G c0 mi pc L st h := by
  have hn := eq_of_beq hl
  subst hn
  intro H locs ls hR hS hL hl0 hc0
  dsimp only [jm_ex] at he
  split at he
  · cases he; exact lv_f2i X.1 X.2.1 hd (k H locs ls hR hS hL hl0 hc0)
  · cases he
theorem jm_w_fmul (X : jm_cx p s m args meth c mi) (hd : decode (jm_code mi) pc = .ok (.fmul, len)) (hl : jm_lok (.fmul) len = true) (he : jm_ex T G fa pc len (.fmul) L st h = some (.inl (pc', L', st', h'))) (k : jm_Wf p l e R s m args below meth c Q D dA base G c0 mi pc' L' st' h') : jm_Wf p l e R s m args below meth c Q D dA base G c0 mi pc L st h := by
  have hn := eq_of_beq hl
  subst hn
  intro H locs ls hR hS hL hl0 hc0
  dsimp only [jm_ex] at he
  split at he
  · split at he
    · rename_i q
      cases he
      exact lv_fmul X.1 X.2.1 hd q (k H locs ls hR hS hL hl0 hc0)
    · cases he
  · cases he
theorem jm_w_fcmp {op : CmpOp} (X : jm_cx p s m args meth c mi) (hd : decode (jm_code mi) pc = .ok (.fcmp op, len)) (hl : jm_lok (.fcmp op) len = true) (he : jm_ex T G fa pc len (.fcmp op) L st h = some (.inl (pc', L', st', h'))) (k : jm_Wf p l e R s m args below meth c Q D dA base G c0 mi pc' L' st' h') : jm_Wf p l e R s m args below meth c Q D dA base G c0 mi pc L st h := by
  have hn := eq_of_beq hl
  subst hn
  intro H locs ls hR hS hL hl0 hc0
  dsimp only [jm_ex] at he
  split at he
  · cases he; exact lv_fcmp X.1 X.2.1 hd (k H locs ls hR hS hL hl0 hc0)
  · cases he
theorem jm_w_lshl (X : jm_cx p s m args meth c mi) (hd : decode (jm_code mi) pc = .ok (.lshl, len)) (hl : jm_lok (.lshl) len = true) (he : jm_ex T G fa pc len (.lshl) L st h = some (.inl (pc', L', st', h'))) (k : jm_Wf p l e R s m args below meth c Q D dA base G c0 mi pc' L' st' h') : jm_Wf p l e R s m args below meth c Q D dA base G c0 mi pc L st h := by
  have hn := eq_of_beq hl
  subst hn
  intro H locs ls hR hS hL hl0 hc0
  dsimp only [jm_ex] at he
  split at he
  · cases he; exact lv_lshl X.1 X.2.1 hd rfl (k H locs ls hR hS hL hl0 hc0)
  · cases he
theorem jm_w_lushr (X : jm_cx p s m args meth c mi) (hd : decode (jm_code mi) pc = .ok (.lushr, len)) (hl : jm_lok (.lushr) len = true) (he : jm_ex T G fa pc len (.lushr) L st h = some (.inl (pc', L', st', h'))) (k : jm_Wf p l e R s m args below meth c Q D dA base G c0 mi pc' L' st' h') : jm_Wf p l e R s m args below meth c Q D dA base G c0 mi pc L st h := by
  have hn := eq_of_beq hl
  subst hn
  intro H locs ls hR hS hL hl0 hc0
  dsimp only [jm_ex] at he
  split at he
  · cases he; exact lv_lushr X.1 X.2.1 hd rfl (k H locs ls hR hS hL hl0 hc0)
  · cases he
theorem jm_w_lcmp (X : jm_cx p s m args meth c mi) (hd : decode (jm_code mi) pc = .ok (.lcmp, len)) (hl : jm_lok (.lcmp) len = true) (he : jm_ex T G fa pc len (.lcmp) L st h = some (.inl (pc', L', st', h'))) (k : jm_Wf p l e R s m args below meth c Q D dA base G c0 mi pc' L' st' h') : jm_Wf p l e R s m args below meth c Q D dA base G c0 mi pc L st h := by
  have hn := eq_of_beq hl
  subst hn
  intro H locs ls hR hS hL hl0 hc0
  dsimp only [jm_ex] at he
  split at he
  · cases he; exact W.lcmp X.1 X.2.1 hd (k H locs ls hR hS hL hl0 hc0)
  · cases he
theorem jm_w_null (X : jm_cx p s m args meth c mi) (hd : decode (jm_code mi) pc = .ok (.aconst_null, len)) (hl : jm_lok (.aconst_null) len = true) (he : jm_ex T G fa pc len (.aconst_null) L st h = some (.inl (pc', L', st', h'))) (k : jm_Wf p l e R s m args below meth c Q D dA base G c0 mi pc' L' st' h') : jm_Wf p l e R s m args below meth c Q D dA base G c0 mi pc L st h := by
  have hn := eq_of_beq hl
  subst hn
  intro H locs ls hR hS hL hl0 hc0
  cases he
  exact lv_null X.1 X.2.1 hd (k H locs ls hR hS hL hl0 hc0)
theorem jm_w_iconst {n : Int} (X : jm_cx p s m args meth c mi) (hd : decode (jm_code mi) pc = .ok (.iconst n, len)) (hl : jm_lok (.iconst n) len = true) (he : jm_ex T G fa pc len (.iconst n) L st h = some (.inl (pc', L', st', h'))) (k : jm_Wf p l e R s m args below meth c Q D dA base G c0 mi pc' L' st' h') : jm_Wf p l e R s m args below meth c Q D dA base G c0 mi pc L st h := by
  have hn := eq_of_beq hl
  subst hn
  intro H locs ls hR hS hL hl0 hc0
  cases he
  exact lv_iconst X.1 X.2.1 hd rfl (k H locs ls hR hS hL hl0 hc0)
theorem jm_w_lconst {n : Fin 2} (X : jm_cx p s m args meth c mi) (hd : decode (jm_code mi) pc = .ok (.lconst n, len)) (hl : jm_lok (.lconst n) len = true) (he : jm_ex T G fa pc len (.lconst n) L st h = some (.inl (pc', L', st', h'))) (k : jm_Wf p l e R s m args below meth c Q D dA base G c0 mi pc' L' st' h') : jm_Wf p l e R s m args below meth c Q D dA base G c0 mi pc L st h := by
  have hn := eq_of_beq hl
  subst hn
  intro H locs ls hR hS hL hl0 hc0
  cases he
  exact lv_lconst X.1 X.2.1 hd rfl (k H locs ls hR hS hL hl0 hc0)
theorem jm_w_bipush {n : Int} (X : jm_cx p s m args meth c mi) (hd : decode (jm_code mi) pc = .ok (.bipush n, len)) (hl : jm_lok (.bipush n) len = true) (he : jm_ex T G fa pc len (.bipush n) L st h = some (.inl (pc', L', st', h'))) (k : jm_Wf p l e R s m args below meth c Q D dA base G c0 mi pc' L' st' h') : jm_Wf p l e R s m args below meth c Q D dA base G c0 mi pc L st h := by
  have hn := eq_of_beq hl
  subst hn
  intro H locs ls hR hS hL hl0 hc0
  cases he
  exact lv_bipush X.1 X.2.1 hd rfl (k H locs ls hR hS hL hl0 hc0)
theorem jm_w_sipush {n : Int} (X : jm_cx p s m args meth c mi) (hd : decode (jm_code mi) pc = .ok (.sipush n, len)) (hl : jm_lok (.sipush n) len = true) (he : jm_ex T G fa pc len (.sipush n) L st h = some (.inl (pc', L', st', h'))) (k : jm_Wf p l e R s m args below meth c Q D dA base G c0 mi pc' L' st' h') : jm_Wf p l e R s m args below meth c Q D dA base G c0 mi pc L st h := by
  have hn := eq_of_beq hl
  subst hn
  intro H locs ls hR hS hL hl0 hc0
  cases he
  exact lv_sipush X.1 X.2.1 hd rfl (k H locs ls hR hS hL hl0 hc0)
theorem jm_w_fconst {n : Fin 3} (X : jm_cx p s m args meth c mi) (hd : decode (jm_code mi) pc = .ok (.fconst n, len)) (hl : jm_lok (.fconst n) len = true) (he : jm_ex T G fa pc len (.fconst n) L st h = some (.inl (pc', L', st', h'))) (k : jm_Wf p l e R s m args below meth c Q D dA base G c0 mi pc' L' st' h') : jm_Wf p l e R s m args below meth c Q D dA base G c0 mi pc L st h := by
  have hn := eq_of_beq hl
  subst hn
  intro H locs ls hR hS hL hl0 hc0
  dsimp only [jm_ex] at he
  split at he
  · rename_i q
    subst q
    cases he
    exact lv_fconst0 X.1 X.2.1 hd (k H locs ls hR hS hL hl0 hc0)
  · cases he
theorem jm_w_iload {i : Nat} (X : jm_cx p s m args meth c mi) (hd : decode (jm_code mi) pc = .ok (.iload i, len)) (hl : jm_lok (.iload i) len = true) (he : jm_ex T G fa pc len (.iload i) L st h = some (.inl (pc', L', st', h'))) (k : jm_Wf p l e R s m args below meth c Q D dA base G c0 mi pc' L' st' h') : jm_Wf p l e R s m args below meth c Q D dA base G c0 mi pc L st h := by
  have hn := eq_of_beq hl
  subst hn
  intro H locs ls hR hS hL hl0 hc0
  obtain ⟨v, hg, hv, rfl, rfl, rfl, rfl⟩ := jm_ld_inl he
  obtain ⟨x, rfl⟩ := jm_isI_of hv
  exact lv_iload X.1 X.2.1 hd (hL.get hg) (k H locs ls hR hS hL hl0 hc0)
theorem jm_w_iload_n {i : Fin 4} (X : jm_cx p s m args meth c mi) (hd : decode (jm_code mi) pc = .ok (.iload_n i, len)) (hl : jm_lok (.iload_n i) len = true) (he : jm_ex T G fa pc len (.iload_n i) L st h = some (.inl (pc', L', st', h'))) (k : jm_Wf p l e R s m args below meth c Q D dA base G c0 mi pc' L' st' h') : jm_Wf p l e R s m args below meth c Q D dA base G c0 mi pc L st h := by
  have hn := eq_of_beq hl
  subst hn
  intro H locs ls hR hS hL hl0 hc0
  obtain ⟨v, hg, hv, rfl, rfl, rfl, rfl⟩ := jm_ld_inl he
  obtain ⟨x, rfl⟩ := jm_isI_of hv
  exact lv_iload_n X.1 X.2.1 hd rfl (hL.get hg) (k H locs ls hR hS hL hl0 hc0)
theorem jm_w_lload {i : Nat} (X : jm_cx p s m args meth c mi) (hd : decode (jm_code mi) pc = .ok (.lload i, len)) (hl : jm_lok (.lload i) len = true) (he : jm_ex T G fa pc len (.lload i) L st h = some (.inl (pc', L', st', h'))) (k : jm_Wf p l e R s m args below meth c Q D dA base G c0 mi pc' L' st' h') : jm_Wf p l e R s m args below meth c Q D dA base G c0 mi pc L st h := by
  have hn := eq_of_beq hl
  subst hn
  intro H locs ls hR hS hL hl0 hc0
  obtain ⟨v, hg, hv, rfl, rfl, rfl, rfl⟩ := jm_ld_inl he
  obtain ⟨x, rfl⟩ := jm_isJ_of hv
  exact lv_lload X.1 X.2.1 hd (hL.get hg) (k H locs ls hR hS hL hl0 hc0)
theorem jm_w_lload_n {i : Fin 4} (X : jm_cx p s m args meth c mi) (hd : decode (jm_code mi) pc = .ok (.lload_n i, len)) (hl : jm_lok (.lload_n i) len = true) (he : jm_ex T G fa pc len (.lload_n i) L st h = some (.inl (pc', L', st', h'))) (k : jm_Wf p l e R s m args below meth c Q D dA base G c0 mi pc' L' st' h') : jm_Wf p l e R s m args below meth c Q D dA base G c0 mi pc L st h := by
  have hn := eq_of_beq hl
  subst hn
  intro H locs ls hR hS hL hl0 hc0
  obtain ⟨v, hg, hv, rfl, rfl, rfl, rfl⟩ := jm_ld_inl he
  obtain ⟨x, rfl⟩ := jm_isJ_of hv
  exact lv_lload_n X.1 X.2.1 hd rfl (hL.get hg) (k H locs ls hR hS hL hl0 hc0)
theorem jm_w_fload {i : Nat} (X : jm_cx p s m args meth c mi) (hd : decode (jm_code mi) pc = .ok (.fload i, len)) (hl : jm_lok (.fload i) len = true) (he : jm_ex T G fa pc len (.fload i) L st h = some (.inl (pc', L', st', h'))) (k : jm_Wf p l e R s m args below meth c Q D dA base G c0 mi pc' L' st' h') : jm_Wf p l e R s m args below meth c Q D dA base G c0 mi pc L st h := by
  have hn := eq_of_beq hl
  subst hn
  intro H locs ls hR hS hL hl0 hc0
  obtain ⟨v, hg, hv, rfl, rfl, rfl, rfl⟩ := jm_ld_inl he
  obtain ⟨x, rfl⟩ := jm_isF_of hv
  exact lv_fload X.1 X.2.1 hd (hL.get hg) (k H locs ls hR hS hL hl0 hc0)
theorem jm_w_fload_n {i : Fin 4} (X : jm_cx p s m args meth c mi) (hd : decode (jm_code mi) pc = .ok (.fload_n i, len)) (hl : jm_lok (.fload_n i) len = true) (he : jm_ex T G fa pc len (.fload_n i) L st h = some (.inl (pc', L', st', h'))) (k : jm_Wf p l e R s m args below meth c Q D dA base G c0 mi pc' L' st' h') : jm_Wf p l e R s m args below meth c Q D dA base G c0 mi pc L st h := by
  have hn := eq_of_beq hl
  subst hn
  intro H locs ls hR hS hL hl0 hc0
  obtain ⟨v, hg, hv, rfl, rfl, rfl, rfl⟩ := jm_ld_inl he
  obtain ⟨x, rfl⟩ := jm_isF_of hv
  exact lv_fload_n X.1 X.2.1 hd rfl (hL.get hg) (k H locs ls hR hS hL hl0 hc0)
theorem jm_w_aload {i : Nat} (X : jm_cx p s m args meth c mi) (hd : decode (jm_code mi) pc = .ok (.aload i, len)) (hl : jm_lok (.aload i) len = true) (he : jm_ex T G fa pc len (.aload i) L st h = some (.inl (pc', L', st', h'))) (k : jm_Wf p l e R s m args below meth c Q D dA base G c0 mi pc' L' st' h') : jm_Wf p l e R s m args below meth c Q D dA base G c0 mi pc L st h := by
  have hn := eq_of_beq hl
  subst hn
  intro H locs ls hR hS hL hl0 hc0
  obtain ⟨v, hg, hv, rfl, rfl, rfl, rfl⟩ := jm_ld_inl he
  rcases jm_isA_of hv with ⟨x, rfl⟩ | rfl
  · exact lv_aload X.1 X.2.1 hd (hL.get hg) (k H locs ls hR hS hL hl0 hc0)
  · exact lv_aloadN X.1 X.2.1 hd (hL.get hg) (k H locs ls hR hS hL hl0 hc0)
theorem jm_w_aload_n {i : Fin 4} (X : jm_cx p s m args meth c mi) (hd : decode (jm_code mi) pc = .ok (.aload_n i, len)) (hl : jm_lok (.aload_n i) len = true) (he : jm_ex T G fa pc len (.aload_n i) L st h = some (.inl (pc', L', st', h'))) (k : jm_Wf p l e R s m args below meth c Q D dA base G c0 mi pc' L' st' h') : jm_Wf p l e R s m args below meth c Q D dA base G c0 mi pc L st h := by
  have hn := eq_of_beq hl
  subst hn
  intro H locs ls hR hS hL hl0 hc0
  obtain ⟨v, hg, hv, rfl, rfl, rfl, rfl⟩ := jm_ld_inl he
  rcases jm_isA_of hv with ⟨x, rfl⟩ | rfl
  · exact lv_aload_n X.1 X.2.1 hd rfl (hL.get hg) (k H locs ls hR hS hL hl0 hc0)
  · exact lv_aload_nN X.1 X.2.1 hd rfl (hL.get hg) (k H locs ls hR hS hL hl0 hc0)
theorem jm_w_istore {i : Nat} (X : jm_cx p s m args meth c mi) (hd : decode (jm_code mi) pc = .ok (.istore i, len)) (hl : jm_lok (.istore i) len = true) (he : jm_ex T G fa pc len (.istore i) L st h = some (.inl (pc', L', st', h'))) (k : jm_Wf p l e R s m args below meth c Q D dA base G c0 mi pc' L' st' h') : jm_Wf p l e R s m args below meth c Q D dA base G c0 mi pc L st h := by
  have hn := eq_of_beq hl
  subst hn
  intro H locs ls hR hS hL hl0 hc0
  obtain ⟨v, r, rfl, hv, hi, rfl, rfl, rfl, rfl⟩ := jm_sto_inl he
  obtain ⟨x, rfl⟩ := jm_isI_of hv
  exact lv_istore X.1 X.2.1 hd hL.has hi rfl (fun ls9 hL9 => k H locs ls9 hR hS (jm_lr.st1 rfl hL9) (by rw [jm_st1_len]; exact hl0) hc0)
theorem jm_w_istore_n {i : Fin 4} (X : jm_cx p s m args meth c mi) (hd : decode (jm_code mi) pc = .ok (.istore_n i, len)) (hl : jm_lok (.istore_n i) len = true) (he : jm_ex T G fa pc len (.istore_n i) L st h = some (.inl (pc', L', st', h'))) (k : jm_Wf p l e R s m args below meth c Q D dA base G c0 mi pc' L' st' h') : jm_Wf p l e R s m args below meth c Q D dA base G c0 mi pc L st h := by
  have hn := eq_of_beq hl
  subst hn
  intro H locs ls hR hS hL hl0 hc0
  obtain ⟨v, r, rfl, hv, hi, rfl, rfl, rfl, rfl⟩ := jm_sto_inl he
  obtain ⟨x, rfl⟩ := jm_isI_of hv
  exact lv_istore_n X.1 X.2.1 hd rfl hL.has hi rfl (fun ls9 hL9 => k H locs ls9 hR hS (jm_lr.st1 rfl hL9) (by rw [jm_st1_len]; exact hl0) hc0)
theorem jm_w_fstore {i : Nat} (X : jm_cx p s m args meth c mi) (hd : decode (jm_code mi) pc = .ok (.fstore i, len)) (hl : jm_lok (.fstore i) len = true) (he : jm_ex T G fa pc len (.fstore i) L st h = some (.inl (pc', L', st', h'))) (k : jm_Wf p l e R s m args below meth c Q D dA base G c0 mi pc' L' st' h') : jm_Wf p l e R s m args below meth c Q D dA base G c0 mi pc L st h := by
  have hn := eq_of_beq hl
  subst hn
  intro H locs ls hR hS hL hl0 hc0
  obtain ⟨v, r, rfl, hv, hi, rfl, rfl, rfl, rfl⟩ := jm_sto_inl he
  obtain ⟨x, rfl⟩ := jm_isF_of hv
  exact lv_fstore X.1 X.2.1 hd hL.has hi rfl (fun ls9 hL9 => k H locs ls9 hR hS (jm_lr.st1 rfl hL9) (by rw [jm_st1_len]; exact hl0) hc0)
theorem jm_w_fstore_n {i : Fin 4} (X : jm_cx p s m args meth c mi) (hd : decode (jm_code mi) pc = .ok (.fstore_n i, len)) (hl : jm_lok (.fstore_n i) len = true) (he : jm_ex T G fa pc len (.fstore_n i) L st h = some (.inl (pc', L', st', h'))) (k : jm_Wf p l e R s m args below meth c Q D dA base G c0 mi pc' L' st' h') : jm_Wf p l e R s m args below meth c Q D dA base G c0 mi pc L st h := by
  have hn := eq_of_beq hl
  subst hn
  intro H locs ls hR hS hL hl0 hc0
  obtain ⟨v, r, rfl, hv, hi, rfl, rfl, rfl, rfl⟩ := jm_sto_inl he
  obtain ⟨x, rfl⟩ := jm_isF_of hv
  exact lv_fstore_n X.1 X.2.1 hd rfl hL.has hi rfl (fun ls9 hL9 => k H locs ls9 hR hS (jm_lr.st1 rfl hL9) (by rw [jm_st1_len]; exact hl0) hc0)
theorem jm_w_astore {i : Nat} (X : jm_cx p s m args meth c mi) (hd : decode (jm_code mi) pc = .ok (.astore i, len)) (hl : jm_lok (.astore i) len = true) (he : jm_ex T G fa pc len (.astore i) L st h = some (.inl (pc', L', st', h'))) (k : jm_Wf p l e R s m args below meth c Q D dA base G c0 mi pc' L' st' h') : jm_Wf p l e R s m args below meth c Q D dA base G c0 mi pc L st h := by
  have hn := eq_of_beq hl
  subst hn
  intro H locs ls hR hS hL hl0 hc0
  obtain ⟨v, r, rfl, hv, hi, rfl, rfl, rfl, rfl⟩ := jm_sto_inl he
  rcases jm_isA_of hv with ⟨x, rfl⟩ | rfl
  · exact lv_astore X.1 X.2.1 hd hL.has hi rfl (fun ls9 hL9 => k H locs ls9 hR hS (jm_lr.st1 rfl hL9) (by rw [jm_st1_len]; exact hl0) hc0)
  · exact lv_astoreN X.1 X.2.1 hd hL.has hi rfl (fun ls9 hL9 => k H locs ls9 hR hS (jm_lr.st1 rfl hL9) (by rw [jm_st1_len]; exact hl0) hc0)
theorem jm_w_lstore {i : Nat} (X : jm_cx p s m args meth c mi) (hd : decode (jm_code mi) pc = .ok (.lstore i, len)) (hl : jm_lok (.lstore i) len = true) (he : jm_ex T G fa pc len (.lstore i) L st h = some (.inl (pc', L', st', h'))) (k : jm_Wf p l e R s m args below meth c Q D dA base G c0 mi pc' L' st' h') : jm_Wf p l e R s m args below meth c Q D dA base G c0 mi pc L st h := by
  have hn := eq_of_beq hl
  subst hn
  intro H locs ls hR hS hL hl0 hc0
  obtain ⟨x, r, rfl, hi, rfl, rfl, rfl, rfl⟩ := jm_stoJ_inl he
  exact lv_lstore X.1 X.2.1 hd hL.has hi rfl (fun ls9 hL9 => k H locs ls9 hR hS (jm_lr.st2 rfl hi hL9) (by rw [jm_st2_len _ _ _ hi]; exact hl0) hc0)
theorem jm_w_astore_n {i : Fin 4} (X : jm_cx p s m args meth c mi) (hd : decode (jm_code mi) pc = .ok (.astore_n i, len)) (hl : jm_lok (.astore_n i) len = true) (he : jm_ex T G fa pc len (.astore_n i) L st h = some (.inl (pc', L', st', h'))) (k : jm_Wf p l e R s m args below meth c Q D dA base G c0 mi pc' L' st' h') : jm_Wf p l e R s m args below meth c Q D dA base G c0 mi pc L st h := by
  have hn := eq_of_beq hl
  subst hn
  intro H locs ls hR hS hL hl0 hc0
  obtain ⟨v, r, rfl, hv, hi, rfl, rfl, rfl, rfl⟩ := jm_sto_inl he
  rcases jm_isA_of hv with ⟨x, rfl⟩ | rfl
  · exact lv_astore_n X.1 X.2.1 hd rfl hL.has hi rfl (fun ls9 hL9 => k H locs ls9 hR hS (jm_lr.st1 rfl hL9) (by rw [jm_st1_len]; exact hl0) hc0)
  · exact lv_astore_nN X.1 X.2.1 hd rfl hL.has hi rfl (fun ls9 hL9 => k H locs ls9 hR hS (jm_lr.st1 rfl hL9) (by rw [jm_st1_len]; exact hl0) hc0)
theorem jm_w_lstore_n {i : Fin 4} (X : jm_cx p s m args meth c mi) (hd : decode (jm_code mi) pc = .ok (.lstore_n i, len)) (hl : jm_lok (.lstore_n i) len = true) (he : jm_ex T G fa pc len (.lstore_n i) L st h = some (.inl (pc', L', st', h'))) (k : jm_Wf p l e R s m args below meth c Q D dA base G c0 mi pc' L' st' h') : jm_Wf p l e R s m args below meth c Q D dA base G c0 mi pc L st h := by
  have hn := eq_of_beq hl
  subst hn
  intro H locs ls hR hS hL hl0 hc0
  obtain ⟨x, r, rfl, hi, rfl, rfl, rfl, rfl⟩ := jm_stoJ_inl he
  exact lv_lstore_n X.1 X.2.1 hd rfl hL.has hi rfl (fun ls9 hL9 => k H locs ls9 hR hS (jm_lr.st2 rfl hi hL9) (by rw [jm_st2_len _ _ _ hi]; exact hl0) hc0)
theorem jm_w_iinc {i : Nat} {n : Int} (X : jm_cx p s m args meth c mi) (hd : decode (jm_code mi) pc = .ok (.iinc i n, len)) (hl : jm_lok (.iinc i n) len = true) (he : jm_ex T G fa pc len (.iinc i n) L st h = some (.inl (pc', L', st', h'))) (k : jm_Wf p l e R s m args below meth c Q D dA base G c0 mi pc' L' st' h') : jm_Wf p l e R s m args below meth c Q D dA base G c0 mi pc L st h := by
  have hn := eq_of_beq hl
  subst hn
  intro H locs ls hR hS hL hl0 hc0
  dsimp only [jm_ex] at he
  split at he
  · rename_i x hg
    cases he
    have hg1 := jm_get_iff.mp hg
    obtain ⟨q, hq⟩ := List.getElem?_of_mem (jm_al_mem.mpr hg1)
    exact lv_iinc X.1 X.2.1 hd hL.has hq rfl (List.getElem?_eq_some_iff.mp hg1).1 rfl (fun ls9 hL9 => k H locs ls9 hR hS (jm_lr.st1 rfl hL9) (by rw [jm_st1_len]; exact hl0) hc0)
  · cases he
theorem jm_w_pop (X : jm_cx p s m args meth c mi) (hd : decode (jm_code mi) pc = .ok (.pop, len)) (hl : jm_lok (.pop) len = true) (he : jm_ex T G fa pc len (.pop) L st h = some (.inl (pc', L', st', h'))) (k : jm_Wf p l e R s m args below meth c Q D dA base G c0 mi pc' L' st' h') : jm_Wf p l e R s m args below meth c Q D dA base G c0 mi pc L st h := by
  have hn := eq_of_beq hl
  subst hn
  intro H locs ls hR hS hL hl0 hc0
  dsimp only [jm_ex] at he
  split at he
  · obtain ⟨q, rfl, rfl, rfl, rfl⟩ := jm_fnx_inl he
    exact lv_pop X.1 X.2.1 hd (by simpa using q) (k H locs ls hR hS hL hl0 hc0)
  · cases he
theorem jm_w_dup (X : jm_cx p s m args meth c mi) (hd : decode (jm_code mi) pc = .ok (.dup, len)) (hl : jm_lok (.dup) len = true) (he : jm_ex T G fa pc len (.dup) L st h = some (.inl (pc', L', st', h'))) (k : jm_Wf p l e R s m args below meth c Q D dA base G c0 mi pc' L' st' h') : jm_Wf p l e R s m args below meth c Q D dA base G c0 mi pc L st h := by
  have hn := eq_of_beq hl
  subst hn
  intro H locs ls hR hS hL hl0 hc0
  dsimp only [jm_ex] at he
  split at he
  · obtain ⟨q, rfl, rfl, rfl, rfl⟩ := jm_fnx_inl he
    exact lv_dup X.1 X.2.1 hd (by simpa using q) (k H locs ls hR hS hL hl0 hc0)
  · cases he
theorem jm_w_dup_x1 (X : jm_cx p s m args meth c mi) (hd : decode (jm_code mi) pc = .ok (.dup_x1, len)) (hl : jm_lok (.dup_x1) len = true) (he : jm_ex T G fa pc len (.dup_x1) L st h = some (.inl (pc', L', st', h'))) (k : jm_Wf p l e R s m args below meth c Q D dA base G c0 mi pc' L' st' h') : jm_Wf p l e R s m args below meth c Q D dA base G c0 mi pc L st h := by
  have hn := eq_of_beq hl
  subst hn
  intro H locs ls hR hS hL hl0 hc0
  dsimp only [jm_ex] at he
  split at he
  · obtain ⟨q, rfl, rfl, rfl, rfl⟩ := jm_fnx_inl he
    simp only [Bool.and_eq_true, beq_iff_eq] at q
    exact lv_dup_x1 X.1 X.2.1 hd q.1 q.2 (k H locs ls hR hS hL hl0 hc0)
  · cases he
theorem jm_w_dup_x2 (X : jm_cx p s m args meth c mi) (hd : decode (jm_code mi) pc = .ok (.dup_x2, len)) (hl : jm_lok (.dup_x2) len = true) (he : jm_ex T G fa pc len (.dup_x2) L st h = some (.inl (pc', L', st', h'))) (k : jm_Wf p l e R s m args below meth c Q D dA base G c0 mi pc' L' st' h') : jm_Wf p l e R s m args below meth c Q D dA base G c0 mi pc L st h := by
  have hn := eq_of_beq hl
  subst hn
  intro H locs ls hR hS hL hl0 hc0
  dsimp only [jm_ex] at he
  split at he
  · obtain ⟨q, rfl, rfl, rfl, rfl⟩ := jm_fnx_inl he
    simp only [Bool.and_eq_true, beq_iff_eq] at q
    exact lv_dup_x2 X.1 X.2.1 hd q.1.1 q.1.2 q.2 (k H locs ls hR hS hL hl0 hc0)
  · cases he
theorem jm_w_dup2 (X : jm_cx p s m args meth c mi) (hd : decode (jm_code mi) pc = .ok (.dup2, len)) (hl : jm_lok (.dup2) len = true) (he : jm_ex T G fa pc len (.dup2) L st h = some (.inl (pc', L', st', h'))) (k : jm_Wf p l e R s m args below meth c Q D dA base G c0 mi pc' L' st' h') : jm_Wf p l e R s m args below meth c Q D dA base G c0 mi pc L st h := by
  have hn := eq_of_beq hl
  subst hn
  intro H locs ls hR hS hL hl0 hc0
  dsimp only [jm_ex] at he
  split at he
  · cases he
    exact lv_dup2_2 X.1 X.2.1 hd rfl (k H locs ls hR hS hL hl0 hc0)
  · obtain ⟨q, rfl, rfl, rfl, rfl⟩ := jm_fnx_inl he
    simp only [Bool.and_eq_true, beq_iff_eq] at q
    exact lv_dup2_11 X.1 X.2.1 hd q.1 q.2 (k H locs ls hR hS hL hl0 hc0)
  · cases he
theorem jm_w_goto {off : Int} (X : jm_cx p s m args meth c mi) (hd : decode (jm_code mi) pc = .ok (.goto off, len)) (hl : jm_lok (.goto off) len = true) (he : jm_ex T G fa pc len (.goto off) L st h = some (.inl (pc', L', st', h'))) (k : jm_Wf p l e R s m args below meth c Q D dA base G c0 mi pc' L' st' h') : jm_Wf p l e R s m args below meth c Q D dA base G c0 mi pc L st h := by
  have hn := eq_of_beq hl
  subst hn
  intro H locs ls hR hS hL hl0 hc0
  obtain ⟨ht, rfl, rfl, rfl⟩ := jm_br_inl he
  exact lv_goto X.1 X.2.1 hd ht (k H locs ls hR hS hL hl0 hc0)
theorem jm_w_if_eq {off : Int} (X : jm_cx p s m args meth c mi) (hd : decode (jm_code mi) pc = .ok (.ifCond .eq off, len)) (hl : jm_lok (.ifCond .eq off) len = true) (he : jm_ex T G fa pc len (.ifCond .eq off) L st h = some (.inl (pc', L', st', h'))) (k : jm_Wf p l e R s m args below meth c Q D dA base G c0 mi pc' L' st' h') : jm_Wf p l e R s m args below meth c Q D dA base G c0 mi pc L st h := by
  have hn := eq_of_beq hl
  subst hn
  intro H locs ls hR hS hL hl0 hc0
  dsimp only [jm_ex] at he
  split at he
  · skip
    obtain ⟨t, ht, h1, h2, rfl, rfl, rfl⟩ := jm_cbr_inl he
    refine lv_if_eq (tgt := t) X.1 X.2.1 hd ht (fun q => ?_) (fun q => ?_)
    · rw [h1 (by simpa [jm_cnd] using q)] at k
      exact k H locs ls hR hS hL hl0 hc0
    · rw [h2 (by simpa [jm_cnd] using q)] at k
      exact k H locs ls hR hS hL hl0 hc0
  · cases he
theorem jm_w_icmp_eq {off : Int} (X : jm_cx p s m args meth c mi) (hd : decode (jm_code mi) pc = .ok (.if_icmp .eq off, len)) (hl : jm_lok (.if_icmp .eq off) len = true) (he : jm_ex T G fa pc len (.if_icmp .eq off) L st h = some (.inl (pc', L', st', h'))) (k : jm_Wf p l e R s m args below meth c Q D dA base G c0 mi pc' L' st' h') : jm_Wf p l e R s m args below meth c Q D dA base G c0 mi pc L st h := by
  have hn := eq_of_beq hl
  subst hn
  intro H locs ls hR hS hL hl0 hc0
  dsimp only [jm_ex] at he
  split at he
  · skip
    obtain ⟨t, ht, h1, h2, rfl, rfl, rfl⟩ := jm_cbr_inl he
    refine lv_icmp_eq (tgt := t) X.1 X.2.1 hd ht (fun q => ?_) (fun q => ?_)
    · rw [h1 (by simpa [jm_cnd] using q)] at k
      exact k H locs ls hR hS hL hl0 hc0
    · rw [h2 (by simpa [jm_cnd] using q)] at k
      exact k H locs ls hR hS hL hl0 hc0
  · cases he
theorem jm_w_if_ne {off : Int} (X : jm_cx p s m args meth c mi) (hd : decode (jm_code mi) pc = .ok (.ifCond .ne off, len)) (hl : jm_lok (.ifCond .ne off) len = true) (he : jm_ex T G fa pc len (.ifCond .ne off) L st h = some (.inl (pc', L', st', h'))) (k : jm_Wf p l e R s m args below meth c Q D dA base G c0 mi pc' L' st' h') : jm_Wf p l e R s m args below meth c Q D dA base G c0 mi pc L st h := by
  have hn := eq_of_beq hl
  subst hn
  intro H locs ls hR hS hL hl0 hc0
  dsimp only [jm_ex] at he
  split at he
  · skip
    obtain ⟨t, ht, h1, h2, rfl, rfl, rfl⟩ := jm_cbr_inl he
    refine lv_if_ne (tgt := t) X.1 X.2.1 hd ht (fun q => ?_) (fun q => ?_)
    · rw [h1 (by simpa [jm_cnd] using q)] at k
      exact k H locs ls hR hS hL hl0 hc0
    · rw [h2 (by simpa [jm_cnd] using q)] at k
      exact k H locs ls hR hS hL hl0 hc0
  · cases he
theorem jm_w_icmp_ne {off : Int} (X : jm_cx p s m args meth c mi) (hd : decode (jm_code mi) pc = .ok (.if_icmp .ne off, len)) (hl : jm_lok (.if_icmp .ne off) len = true) (he : jm_ex T G fa pc len (.if_icmp .ne off) L st h = some (.inl (pc', L', st', h'))) (k : jm_Wf p l e R s m args below meth c Q D dA base G c0 mi pc' L' st' h') : jm_Wf p l e R s m args below meth c Q D dA base G c0 mi pc L st h := by
  have hn := eq_of_beq hl
  subst hn
  intro H locs ls hR hS hL hl0 hc0
  dsimp only [jm_ex] at he
  split at he
  · skip
    obtain ⟨t, ht, h1, h2, rfl, rfl, rfl⟩ := jm_cbr_inl he
    refine lv_icmp_ne (tgt := t) X.1 X.2.1 hd ht (fun q => ?_) (fun q => ?_)
    · rw [h1 (by simpa [jm_cnd] using q)] at k
      exact k H locs ls hR hS hL hl0 hc0
    · rw [h2 (by simpa [jm_cnd] using q)] at k
      exact k H locs ls hR hS hL hl0 hc0
  · cases he
theorem jm_w_if_lt {off : Int} (X : jm_cx p s m args meth c mi) (hd : decode (jm_code mi) pc = .ok (.ifCond .lt off, len)) (hl : jm_lok (.ifCond .lt off) len = true) (he : jm_ex T G fa pc len (.ifCond .lt off) L st h = some (.inl (pc', L', st', h'))) (k : jm_Wf p l e R s m args below meth c Q D dA base G c0 mi pc' L' st' h') : jm_Wf p l e R s m args below meth c Q D dA base G c0 mi pc L st h := by
  have hn := eq_of_beq hl
  subst hn
  intro H locs ls hR hS hL hl0 hc0
  dsimp only [jm_ex] at he
  split at he
  · skip
    obtain ⟨t, ht, h1, h2, rfl, rfl, rfl⟩ := jm_cbr_inl he
    refine lv_if_lt (tgt := t) X.1 X.2.1 hd ht (fun q => ?_) (fun q => ?_)
    · rw [h1 (by simpa [jm_cnd] using q)] at k
      exact k H locs ls hR hS hL hl0 hc0
    · rw [h2 (by simpa [jm_cnd] using q)] at k
      exact k H locs ls hR hS hL hl0 hc0
  · cases he
theorem jm_w_icmp_lt {off : Int} (X : jm_cx p s m args meth c mi) (hd : decode (jm_code mi) pc = .ok (.if_icmp .lt off, len)) (hl : jm_lok (.if_icmp .lt off) len = true) (he : jm_ex T G fa pc len (.if_icmp .lt off) L st h = some (.inl (pc', L', st', h'))) (k : jm_Wf p l e R s m args below meth c Q D dA base G c0 mi pc' L' st' h') : jm_Wf p l e R s m args below meth c Q D dA base G c0 mi pc L st h := by
  have hn := eq_of_beq hl
  subst hn
  intro H locs ls hR hS hL hl0 hc0
  dsimp only [jm_ex] at he
  split at he
  · skip
    obtain ⟨t, ht, h1, h2, rfl, rfl, rfl⟩ := jm_cbr_inl he
    refine lv_icmp_lt (tgt := t) X.1 X.2.1 hd ht (fun q => ?_) (fun q => ?_)
    · rw [h1 (by simpa [jm_cnd] using q)] at k
      exact k H locs ls hR hS hL hl0 hc0
    · rw [h2 (by simpa [jm_cnd] using q)] at k
      exact k H locs ls hR hS hL hl0 hc0
  · cases he
theorem jm_w_if_ge {off : Int} (X : jm_cx p s m args meth c mi) (hd : decode (jm_code mi) pc = .ok (.ifCond .ge off, len)) (hl : jm_lok (.ifCond .ge off) len = true) (he : jm_ex T G fa pc len (.ifCond .ge off) L st h = some (.inl (pc', L', st', h'))) (k : jm_Wf p l e R s m args below meth c Q D dA base G c0 mi pc' L' st' h') : jm_Wf p l e R s m args below meth c Q D dA base G c0 mi pc L st h := by
  have hn := eq_of_beq hl
  subst hn
  intro H locs ls hR hS hL hl0 hc0
  dsimp only [jm_ex] at he
  split at he
  · skip
    obtain ⟨t, ht, h1, h2, rfl, rfl, rfl⟩ := jm_cbr_inl he
    refine lv_if_ge (tgt := t) X.1 X.2.1 hd ht (fun q => ?_) (fun q => ?_)
    · rw [h1 (by simpa [jm_cnd] using q)] at k
      exact k H locs ls hR hS hL hl0 hc0
    · rw [h2 (by simpa [jm_cnd] using q)] at k
      exact k H locs ls hR hS hL hl0 hc0
  · cases he
theorem jm_w_icmp_ge {off : Int} (X : jm_cx p s m args meth c mi) (hd : decode (jm_code mi) pc = .ok (.if_icmp .ge off, len)) (hl : jm_lok (.if_icmp .ge off) len = true) (he : jm_ex T G fa pc len (.if_icmp .ge off) L st h = some (.inl (pc', L', st', h'))) (k : jm_Wf p l e R s m args below meth c Q D dA base G c0 mi pc' L' st' h') : jm_Wf p l e R s m args below meth c Q D dA base G c0 mi pc L st h := by
  have hn := eq_of_beq hl
  subst hn
  intro H locs ls hR hS hL hl0 hc0
  dsimp only [jm_ex] at he
  split at he
  · skip
    obtain ⟨t, ht, h1, h2, rfl, rfl, rfl⟩ := jm_cbr_inl he
    refine lv_icmp_ge (tgt := t) X.1 X.2.1 hd ht (fun q => ?_) (fun q => ?_)
    · rw [h1 (by simpa [jm_cnd] using q)] at k
      exact k H locs ls hR hS hL hl0 hc0
    · rw [h2 (by simpa [jm_cnd] using q)] at k
      exact k H locs ls hR hS hL hl0 hc0
  · cases he
theorem jm_w_if_gt {off : Int} (X : jm_cx p s m args meth c mi) (hd : decode (jm_code mi) pc = .ok (.ifCond .gt off, len)) (hl : jm_lok (.ifCond .gt off) len = true) (he : jm_ex T G fa pc len (.ifCond .gt off) L st h = some (.inl (pc', L', st', h'))) (k : jm_Wf p l e R s m args below meth c Q D dA base G c0 mi pc' L' st' h') : jm_Wf p l e R s m args below meth c Q D dA base G c0 mi pc L st h := by
  have hn := eq_of_beq hl
  subst hn
  intro H locs ls hR hS hL hl0 hc0
  dsimp only [jm_ex] at he
  split at he
  · skip
    obtain ⟨t, ht, h1, h2, rfl, rfl, rfl⟩ := jm_cbr_inl he
    refine lv_if_gt (tgt := t) X.1 X.2.1 hd ht (fun q => ?_) (fun q => ?_)
    · rw [h1 (by simpa [jm_cnd] using q)] at k
      exact k H locs ls hR hS hL hl0 hc0
    · rw [h2 (by simpa [jm_cnd] using q)] at k
      exact k H locs ls hR hS hL hl0 hc0
  · cases he
theorem jm_w_icmp_gt {off : Int} (X : jm_cx p s m args meth c mi) (hd : decode (jm_code mi) pc = .ok (.if_icmp .gt off, len)) (hl : jm_lok (.if_icmp .gt off) len = true) (he : jm_ex T G fa pc len (.if_icmp .gt off) L st h = some (.inl (pc', L', st', h'))) (k : jm_Wf p l e R s m args below meth c Q D dA base G c0 mi pc' L' st' h') : jm_Wf p l e R s m args below meth c Q D dA base G c0 mi pc L st h := by
  have hn := eq_of_beq hl
  subst hn
  intro H locs ls hR hS hL hl0 hc0
  dsimp only [jm_ex] at he
  split at he
  · skip
    obtain ⟨t, ht, h1, h2, rfl, rfl, rfl⟩ := jm_cbr_inl he
    refine lv_icmp_gt (tgt := t) X.1 X.2.1 hd ht (fun q => ?_) (fun q => ?_)
    · rw [h1 (by simpa [jm_cnd] using q)] at k
      exact k H locs ls hR hS hL hl0 hc0
    · rw [h2 (by simpa [jm_cnd] using q)] at k
      exact k H locs ls hR hS hL hl0 hc0
  · cases he
theorem jm_w_if_le {off : Int} (X : jm_cx p s m args meth c mi) (hd : decode (jm_code mi) pc = .ok (.ifCond .le off, len)) (hl : jm_lok (.ifCond .le off) len = true) (he : jm_ex T G fa pc len (.ifCond .le off) L st h = some (.inl (pc', L', st', h'))) (k : jm_Wf p l e R s m args below meth c Q D dA base G c0 mi pc' L' st' h') : jm_Wf p l e R s m args below meth c Q D dA base G c0 mi pc L st h := by
  have hn := eq_of_beq hl
  subst hn
  intro H locs ls hR hS hL hl0 hc0
  dsimp only [jm_ex] at he
  split at he
  · skip
    obtain ⟨t, ht, h1, h2, rfl, rfl, rfl⟩ := jm_cbr_inl he
    refine lv_if_le (tgt := t) X.1 X.2.1 hd ht (fun q => ?_) (fun q => ?_)
    · rw [h1 (by simpa [jm_cnd] using q)] at k
      exact k H locs ls hR hS hL hl0 hc0
    · rw [h2 (by simpa [jm_cnd] using q)] at k
      exact k H locs ls hR hS hL hl0 hc0
  · cases he
theorem jm_w_icmp_le {off : Int} (X : jm_cx p s m args meth c mi) (hd : decode (jm_code mi) pc = .ok (.if_icmp .le off, len)) (hl : jm_lok (.if_icmp .le off) len = true) (he : jm_ex T G fa pc len (.if_icmp .le off) L st h = some (.inl (pc', L', st', h'))) (k : jm_Wf p l e R s m args below meth c Q D dA base G c0 mi pc' L' st' h') : jm_Wf p l e R s m args below meth c Q D dA base G c0 mi pc L st h := by
  have hn := eq_of_beq hl
  subst hn
  intro H locs ls hR hS hL hl0 hc0
  dsimp only [jm_ex] at he
  split at he
  · skip
    obtain ⟨t, ht, h1, h2, rfl, rfl, rfl⟩ := jm_cbr_inl he
    refine lv_icmp_le (tgt := t) X.1 X.2.1 hd ht (fun q => ?_) (fun q => ?_)
    · rw [h1 (by simpa [jm_cnd] using q)] at k
      exact k H locs ls hR hS hL hl0 hc0
    · rw [h2 (by simpa [jm_cnd] using q)] at k
      exact k H locs ls hR hS hL hl0 hc0
  · cases he
theorem jm_w_acmp_eq {off : Int} (X : jm_cx p s m args meth c mi) (hd : decode (jm_code mi) pc = .ok (.if_acmp .eq off, len)) (hl : jm_lok (.if_acmp .eq off) len = true) (he : jm_ex T G fa pc len (.if_acmp .eq off) L st h = some (.inl (pc', L', st', h'))) (k : jm_Wf p l e R s m args below meth c Q D dA base G c0 mi pc' L' st' h') : jm_Wf p l e R s m args below meth c Q D dA base G c0 mi pc L st h := by
  have hn := eq_of_beq hl
  subst hn
  intro H locs ls hR hS hL hl0 hc0
  dsimp only [jm_ex] at he
  split at he
  · obtain ⟨t, ht, h1, h2, rfl, rfl, rfl⟩ := jm_cbr_inl he
    refine lv_acmp_eq (rx := some _) (ry := some _) (tgt := t) X.1 X.2.1 hd ht (fun q => ?_) (fun q => ?_)
    · rw [h1 (by simpa using q)] at k
      exact k H locs ls hR hS hL hl0 hc0
    · rw [h2 (by simpa using q)] at k
      exact k H locs ls hR hS hL hl0 hc0
  · obtain ⟨t, ht, h1, h2, rfl, rfl, rfl⟩ := jm_cbr_inl he
    refine lv_acmp_eq (rx := some _) (ry := none) (tgt := t) X.1 X.2.1 hd ht (fun q => ?_) (fun q => ?_)
    · rw [h1 (by simpa using q)] at k
      exact k H locs ls hR hS hL hl0 hc0
    · rw [h2 (by simpa using q)] at k
      exact k H locs ls hR hS hL hl0 hc0
  · obtain ⟨t, ht, h1, h2, rfl, rfl, rfl⟩ := jm_cbr_inl he
    refine lv_acmp_eq (rx := none) (ry := some _) (tgt := t) X.1 X.2.1 hd ht (fun q => ?_) (fun q => ?_)
    · rw [h1 (by simpa using q)] at k
      exact k H locs ls hR hS hL hl0 hc0
    · rw [h2 (by simpa using q)] at k
      exact k H locs ls hR hS hL hl0 hc0
  · obtain ⟨t, ht, h1, h2, rfl, rfl, rfl⟩ := jm_cbr_inl he
    refine lv_acmp_eq (rx := none) (ry := none) (tgt := t) X.1 X.2.1 hd ht (fun q => ?_) (fun q => ?_)
    · rw [h1 (by simpa using q)] at k
      exact k H locs ls hR hS hL hl0 hc0
    · rw [h2 (by simpa using q)] at k
      exact k H locs ls hR hS hL hl0 hc0
  · cases he
theorem jm_w_acmp_ne {off : Int} (X : jm_cx p s m args meth c mi) (hd : decode (jm_code mi) pc = .ok (.if_acmp .ne off, len)) (hl : jm_lok (.if_acmp .ne off) len = true) (he : jm_ex T G fa pc len (.if_acmp .ne off) L st h = some (.inl (pc', L', st', h'))) (k : jm_Wf p l e R s m args below meth c Q D dA base G c0 mi pc' L' st' h') : jm_Wf p l e R s m args below meth c Q D dA base G c0 mi pc L st h := by
  have hn := eq_of_beq hl
  subst hn
  intro H locs ls hR hS hL hl0 hc0
  dsimp only [jm_ex] at he
  split at he
  · obtain ⟨t, ht, h1, h2, rfl, rfl, rfl⟩ := jm_cbr_inl he
    refine lv_acmp_ne (rx := some _) (ry := some _) (tgt := t) X.1 X.2.1 hd ht (fun q => ?_) (fun q => ?_)
    · rw [h1 (by simpa using q)] at k
      exact k H locs ls hR hS hL hl0 hc0
    · rw [h2 (by simpa using q)] at k
      exact k H locs ls hR hS hL hl0 hc0
  · obtain ⟨t, ht, h1, h2, rfl, rfl, rfl⟩ := jm_cbr_inl he
    refine lv_acmp_ne (rx := some _) (ry := none) (tgt := t) X.1 X.2.1 hd ht (fun q => ?_) (fun q => ?_)
    · rw [h1 (by simpa using q)] at k
      exact k H locs ls hR hS hL hl0 hc0
    · rw [h2 (by simpa using q)] at k
      exact k H locs ls hR hS hL hl0 hc0
  · obtain ⟨t, ht, h1, h2, rfl, rfl, rfl⟩ := jm_cbr_inl he
    refine lv_acmp_ne (rx := none) (ry := some _) (tgt := t) X.1 X.2.1 hd ht (fun q => ?_) (fun q => ?_)
    · rw [h1 (by simpa using q)] at k
      exact k H locs ls hR hS hL hl0 hc0
    · rw [h2 (by simpa using q)] at k
      exact k H locs ls hR hS hL hl0 hc0
  · obtain ⟨t, ht, h1, h2, rfl, rfl, rfl⟩ := jm_cbr_inl he
    refine lv_acmp_ne (rx := none) (ry := none) (tgt := t) X.1 X.2.1 hd ht (fun q => ?_) (fun q => ?_)
    · rw [h1 (by simpa using q)] at k
      exact k H locs ls hR hS hL hl0 hc0
    · rw [h2 (by simpa using q)] at k
      exact k H locs ls hR hS hL hl0 hc0
  · cases he
theorem jm_w_ifnull {off : Int} (X : jm_cx p s m args meth c mi) (hd : decode (jm_code mi) pc = .ok (.ifnull off, len)) (hl : jm_lok (.ifnull off) len = true) (he : jm_ex T G fa pc len (.ifnull off) L st h = some (.inl (pc', L', st', h'))) (k : jm_Wf p l e R s m args below meth c Q D dA base G c0 mi pc' L' st' h') : jm_Wf p l e R s m args below meth c Q D dA base G c0 mi pc L st h := by
  have hn := eq_of_beq hl
  subst hn
  intro H locs ls hR hS hL hl0 hc0
  dsimp only [jm_ex] at he
  split at he
  · obtain ⟨ht, rfl, rfl, rfl⟩ := jm_br_inl he
    exact lv_ifnullN X.1 X.2.1 hd ht (k H locs ls hR hS hL hl0 hc0)
  · cases he
    exact lv_ifnull X.1 X.2.1 hd (k H locs ls hR hS hL hl0 hc0)
  · cases he
theorem jm_w_ifnonnull {off : Int} (X : jm_cx p s m args meth c mi) (hd : decode (jm_code mi) pc = .ok (.ifnonnull off, len)) (hl : jm_lok (.ifnonnull off) len = true) (he : jm_ex T G fa pc len (.ifnonnull off) L st h = some (.inl (pc', L', st', h'))) (k : jm_Wf p l e R s m args below meth c Q D dA base G c0 mi pc' L' st' h') : jm_Wf p l e R s m args below meth c Q D dA base G c0 mi pc L st h := by
  have hn := eq_of_beq hl
  subst hn
  intro H locs ls hR hS hL hl0 hc0
  dsimp only [jm_ex] at he
  split at he
  · cases he
    exact lv_ifnonnullN X.1 X.2.1 hd (k H locs ls hR hS hL hl0 hc0)
  · obtain ⟨ht, rfl, rfl, rfl⟩ := jm_br_inl he
    exact lv_ifnonnull X.1 X.2.1 hd ht (k H locs ls hR hS hL hl0 hc0)
  · cases he
theorem jm_w_tableswitch {d lo hi : Int} {offs : Array Int} (X : jm_cx p s m args meth c mi) (hd : decode (jm_code mi) pc = .ok (.tableswitch d lo hi offs, len)) (he : jm_ex T G fa pc len (.tableswitch d lo hi offs) L st h = some (.inl (pc', L', st', h'))) (k : jm_Wf p l e R s m args below meth c Q D dA base G c0 mi pc' L' st' h') : jm_Wf p l e R s m args below meth c Q D dA base G c0 mi pc L st h := by
  intro H locs ls hR hS hL hl0 hc0
  dsimp only [jm_ex] at he
  split at he
  · split at he
    · rename_i q
      obtain ⟨ht, rfl, rfl, rfl⟩ := jm_br_inl he
      exact lv_tableOut X.1 X.2.1 hd q ht (k H locs ls hR hS hL hl0 hc0)
    · rename_i q
      split at he
      · rename_i off ho
        obtain ⟨ht, rfl, rfl, rfl⟩ := jm_br_inl he
        exact lv_tableIn X.1 X.2.1 hd (fun z => q (Or.inl z)) (fun z => q (Or.inr z)) ho ht (k H locs ls hR hS hL hl0 hc0)
      · cases he
  · cases he
theorem jm_w_lookupswitch {d : Int} {ps : Array (Int × Int)} (X : jm_cx p s m args meth c mi) (hd : decode (jm_code mi) pc = .ok (.lookupswitch d ps, len)) (he : jm_ex T G fa pc len (.lookupswitch d ps) L st h = some (.inl (pc', L', st', h'))) (k : jm_Wf p l e R s m args below meth c Q D dA base G c0 mi pc' L' st' h') : jm_Wf p l e R s m args below meth c Q D dA base G c0 mi pc L st h := by
  intro H locs ls hR hS hL hl0 hc0
  dsimp only [jm_ex] at he
  split at he
  · split at he
    · rename_i q
      obtain ⟨ht, rfl, rfl, rfl⟩ := jm_br_inl he
      exact lv_lookup X.1 X.2.1 hd q rfl ht (k H locs ls hR hS hL hl0 hc0)
    · cases he
  · cases he
end JMS
