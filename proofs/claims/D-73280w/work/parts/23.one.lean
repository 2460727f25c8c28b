/-! ONE INSTRUCTION, WHATEVER IT IS; THE INDUCTION -/
section JMO
variable {p : Program} {l : Launch} {e : Env} {R : Room} {s : State} {m : MethodId} {args : Array Value} {below : List Frame} {meth : Method} {c : Code} {Q : State → Prop} {D : va_G} {dA : Nat → ClassId} {base : Nat} {G : jm_G} {c0 mi pc pc' len : Nat} {L L' : jm_L} {st st' : List Value} {h h' : jm_H} {i : Instr}
theorem jm_one (V : jm_V) (hmi : mi < jm_nm) (X : jm_cx p s m args meth c mi) (hname : meth.name = (jm_mnm mi).name) (K : jm_K D dA G s) (Z : jm_Z G base s s.heap) (hR1 : 1 ≤ R.frames ∧ 100 ≤ R.locals) (hd : decode (jm_code mi) pc = .ok (i, len)) (hl : jm_lok i len = true) (he : jm_ex (jm_tab mi) G jm_fc pc len i L st h = some (.inl (pc', L', st', h'))) (hrm : h'.2.2 - c0 ≤ R.cells ∧ h'.2.2 - c0 ≤ R.slots) (k : jm_Wf p l e R s m args below meth c Q D dA base G c0 mi pc' L' st' h') : jm_Wf p l e R s m args below meth c Q D dA base G c0 mi pc L st h := by
  obtain ⟨hif, Vc, Vq, Vy, VT, Vm, -⟩ := V
  obtain ⟨Tf, Tp, Ts, Tc, Tl, Tn, Ta, Tm, Tk, To, hTq, T0, T1, T2, T3, T4, T5, T6⟩ := VT mi hmi
  cases i with
  | d2f => cases he
  | d2i => cases he
  | d2l => cases he
  | dadd => cases he
  | daload => cases he
  | dastore => cases he
  | dcmp _ => cases he
  | dconst _ => cases he
  | ddiv => cases he
  | dload _ => cases he
  | dload_n _ => cases he
  | dmul => cases he
  | dneg => cases he
  | drem => cases he
  | dreturn => cases he
  | dstore _ => cases he
  | dstore_n _ => cases he
  | dsub => cases he
  | dup2_x1 => cases he
  | dup2_x2 => cases he
  | f2d => cases he
  | f2l => cases he
  | fadd => cases he
  | faload => cases he
  | fastore => cases he
  | fdiv => cases he
  | fneg => cases he
  | frem => cases he
  | freturn => cases he
  | fsub => cases he
  | goto_w _ => cases he
  | i2d => cases he
  | i2s => cases he
  | invokedynamic _ => cases he
  | jsr _ => cases he
  | jsr_w _ => cases he
  | l2d => cases he
  | l2f => cases he
  | lneg => cases he
  | lshr => cases he
  | monitorenter => cases he
  | monitorexit => cases he
  | pop2 => cases he
  | putstatic _ => cases he
  | ret _ => cases he
  | saload => cases he
  | sastore => cases he
  | swap => cases he
  | iadd => exact jm_w_iadd X hd hl he k
  | isub => exact jm_w_isub X hd hl he k
  | imul => exact jm_w_imul X hd hl he k
  | iand => exact jm_w_iand X hd hl he k
  | ior => exact jm_w_ior X hd hl he k
  | ixor => exact jm_w_ixor X hd hl he k
  | ishl => exact jm_w_ishl X hd hl he k
  | ishr => exact jm_w_ishr X hd hl he k
  | ladd => exact jm_w_ladd X hd hl he k
  | lsub => exact jm_w_lsub X hd hl he k
  | lmul => exact jm_w_lmul X hd hl he k
  | land => exact jm_w_land X hd hl he k
  | lor => exact jm_w_lor X hd hl he k
  | lxor => exact jm_w_lxor X hd hl he k
  | iushr => exact jm_w_iushr X hd hl he k
  | idiv => exact jm_w_idiv X hd hl he k
  | irem => exact jm_w_irem X hd hl he k
  | ldiv => exact jm_w_ldiv X hd hl he k
  | lrem => exact jm_w_lrem X hd hl he k
  | ineg => exact jm_w_ineg X hd hl he k
  | i2l => exact jm_w_i2l X hd hl he k
  | i2b => exact jm_w_i2b X hd hl he k
  | i2c => exact jm_w_i2c X hd hl he k
  | i2f => exact jm_w_i2f X hd hl he k
  | l2i => exact jm_w_l2i X hd hl he k
  | f2i => exact jm_w_f2i X hd hl he k
  | fmul => exact jm_w_fmul X hd hl he k
  | lshl => exact jm_w_lshl X hd hl he k
  | lushr => exact jm_w_lushr X hd hl he k
  | lcmp => exact jm_w_lcmp X hd hl he k
  | pop => exact jm_w_pop X hd hl he k
  | dup => exact jm_w_dup X hd hl he k
  | dup_x1 => exact jm_w_dup_x1 X hd hl he k
  | dup_x2 => exact jm_w_dup_x2 X hd hl he k
  | dup2 => exact jm_w_dup2 X hd hl he k
  | iconst _ => exact jm_w_iconst X hd hl he k
  | lconst _ => exact jm_w_lconst X hd hl he k
  | bipush _ => exact jm_w_bipush X hd hl he k
  | sipush _ => exact jm_w_sipush X hd hl he k
  | fconst _ => exact jm_w_fconst X hd hl he k
  | iload _ => exact jm_w_iload X hd hl he k
  | lload _ => exact jm_w_lload X hd hl he k
  | fload _ => exact jm_w_fload X hd hl he k
  | iload_n _ => exact jm_w_iload_n X hd hl he k
  | lload_n _ => exact jm_w_lload_n X hd hl he k
  | fload_n _ => exact jm_w_fload_n X hd hl he k
  | aload _ => exact jm_w_aload X hd hl he k
  | aload_n _ => exact jm_w_aload_n X hd hl he k
  | istore _ => exact jm_w_istore X hd hl he k
  | istore_n _ => exact jm_w_istore_n X hd hl he k
  | fstore _ => exact jm_w_fstore X hd hl he k
  | fstore_n _ => exact jm_w_fstore_n X hd hl he k
  | astore _ => exact jm_w_astore X hd hl he k
  | astore_n _ => exact jm_w_astore_n X hd hl he k
  | lstore _ => exact jm_w_lstore X hd hl he k
  | lstore_n _ => exact jm_w_lstore_n X hd hl he k
  | goto _ => exact jm_w_goto X hd hl he k
  | ifnull _ => exact jm_w_ifnull X hd hl he k
  | ifnonnull _ => exact jm_w_ifnonnull X hd hl he k
  | fcmp _ => exact jm_w_fcmp X hd hl he k
  | nop => cases he; exact jm_w_nop X hd hl k
  | aconst_null => exact jm_w_null X hd hl he k
  | iinc _ _ => exact jm_w_iinc X hd hl he k
  | ifCond cc _ =>  cases cc <;> first | exact jm_w_if_eq X hd hl he k | exact jm_w_if_ne X hd hl he k | exact jm_w_if_lt X hd hl he k | exact jm_w_if_ge X hd hl he k | exact jm_w_if_gt X hd hl he k | exact jm_w_if_le X hd hl he k
  | if_icmp cc _ =>  cases cc <;> first | exact jm_w_icmp_eq X hd hl he k | exact jm_w_icmp_ne X hd hl he k | exact jm_w_icmp_lt X hd hl he k | exact jm_w_icmp_ge X hd hl he k | exact jm_w_icmp_gt X hd hl he k | exact jm_w_icmp_le X hd hl he k
  | if_acmp cc _ =>  cases cc <;> first | exact jm_w_acmp_eq X hd hl he k | exact jm_w_acmp_ne X hd hl he k
  | tableswitch _ _ _ _ => exact jm_w_tableswitch X hd he k
  | lookupswitch _ _ => exact jm_w_lookupswitch X hd he k
  | getfield _ => exact jm_w_getfield X K Vc Tf hd hl he k
  | putfield _ => exact jm_w_putfield X K Vc Tf (fun ci kk v hv => by rw [hname]; exact Tp ci kk v hv) hd hl he k
  | getstatic _ => exact jm_w_getstatic X K Z Ts hd hl he k
  | iaload => exact jm_w_iaload X K hd hl he k
  | baload => exact jm_w_baload X K hd hl he k
  | caload => exact jm_w_caload X K hd hl he k
  | laload => exact jm_w_laload X K hd hl he k
  | iastore => exact jm_w_iastore X K hd hl he k
  | bastore => exact jm_w_bastore X K hd hl he k
  | castore => exact jm_w_castore X K hd hl he k
  | lastore => exact jm_w_lastore X K hd hl he k
  | aaload => exact jm_w_aaload X K hd hl he k
  | arraylength => exact jm_w_arraylength X K hd hl he k
  | aastore => exact jm_w_aastore X K hTq Vq hd hl he k
  | ldc _ => exact jm_w_ldc X K Tc hd hl he k
  | ldc_w _ => exact jm_w_ldc_w X K Tc hd hl he k
  | ldc2_w _ => exact jm_w_ldc2 X Tl hd hl he k
  | new _ => exact jm_w_new X K Vc Tn hd hl he hrm k
  | newarray _ => exact jm_w_newarray X K (fun ti ty h => Vy _ ti ty h) hd hl he hrm k
  | anewarray _ => exact jm_w_anewarray X K Ta hd hl he hrm k
  | multianewarray _ _ => exact jm_w_multianewarray X K Tm (Vy .int 0 .int rfl) hd hl he hrm k
  | checkcast _ => exact jm_w_checkcast X K Tk hd hl he k
  | instanceof _ => exact jm_w_instanceof X K To hd hl he k
  | athrow => 
    dsimp only [jm_ex] at he
    split at he
    · split at he
      · split at he <;> cases he
      · cases he
    · cases he
  | ireturn => dsimp only [jm_ex] at he; split at he <;> cases he
  | lreturn => dsimp only [jm_ex] at he; split at he <;> cases he
  | areturn => 
    dsimp only [jm_ex] at he
    split at he
    · split at he <;> cases he
    · cases he
  | return_ => dsimp only [jm_ex] at he; split at he <;> cases he
  | invokestatic x => 
    have hn := eq_of_beq hl
    subst hn
    dsimp only [jm_ex] at he
    split at he
    · rename_i kk n tg hi
      obtain ⟨q1, q2, -⟩ := jm_do_inl he
      rcases q2 with rfl | rfl | rfl
      · simp at q1
      · exact jm_w_copy X K hTq Vq T4 hR1 hi hd he k
      · simp at q1
    · cases he
  | invokespecial x => 
    have hn := eq_of_beq hl
    subst hn
    dsimp only [jm_ex] at he
    split at he
    · rename_i kk n tg hi
      obtain ⟨q1, q2, -⟩ := jm_do_inl he
      rcases q2 with rfl | rfl | rfl
      · exact jm_w_objinit X T2 hR1 hi hd he k
      · simp at q1
      · simp at q1
    · cases he
  | invokevirtual x => 
    have hn := eq_of_beq hl
    subst hn
    dsimp only [jm_ex] at he
    split at he
    · rename_i kk n tg hi
      obtain ⟨q1, q2, -⟩ := jm_do_inl he
      rcases q2 with rfl | rfl | rfl
      · simp at q1
      · simp at q1
      · exact jm_w_getclass X K T5 hR1 hi hd he k
    · cases he
  | invokeinterface x ct => 
    dsimp only [jm_ex] at he
    split at he
    · obtain ⟨q1, q2, -⟩ := jm_do_inl he
      rcases q2 with rfl | rfl | rfl <;> simp at q1
    · cases he
end JMO
/-- what is fixed of the frame's method -/
def jm_CX (p : Program) (s : State) (m : MethodId) (args : Array Value) (meth : Method) (c : Code) (D : va_G) (dA : Nat → ClassId) (base : Nat) (G : jm_G) (mi : Nat) : Prop := jm_cx p s m args meth c mi ∧ meth.name = (jm_mnm mi).name ∧ meth.sig.returnType = jm_ret mi ∧ c.exceptionTable.toList = tableOf (jm_hh mi) ∧ jm_K D dA G s ∧ jm_Z G base s s.heap
/-- what is owed at the run's end r -/
def jm_FIN (p : Program) (l : Launch) (e : Env) (R : Room) (s : State) (m : MethodId) (args : Array Value) (below : List Frame) (meth : Method) (c : Code) (Q : State → Prop) (D : va_G) (dA : Nat → ClassId) (base : Nat) (G : jm_G) (c0 mi : Nat) (r : jm_R) : Prop :=
  (∀ pc' L' st' v, r.1 = .inl v → jm_step G mi pc' L' st' r.2 = some (.inr (.inr (.inl (v, r.2)))) → jm_Wf p l e R s m args below meth c Q D dA base G c0 mi pc' L' st' r.2) ∧
  ∀ a pc' L', r.1 = .inr a → (∃ V, r.2.1 a = some (.inl (jm_fc, V))) → jm_hnd mi pc' = none → jm_Wx p l e R s m args below meth c Q D dA base G (r.2.2.2 - c0) pc' L' r.2 a
section JMX
variable {l : Launch} {D : va_G} {dA : Nat → ClassId} {base : Nat} {G : jm_G}
/-- the thrown object is taken by the frame's own handler, or goes out -/
theorem jm_thrown (V : jm_V) {p : Program} {e : Env} {R : Room} {s : State} {m : MethodId} {args : Array Value} {below : List Frame} {meth : Method} {c : Code} {Q : State → Prop} {c0 mi pc hp : Nat} {L : jm_L} {h : jm_H} {a : Nat} (C : jm_CX p s m args meth c D dA base G mi) (hh : jm_hnd mi pc = some hp) (hL0 : L.length = jm_mxl mi) (hc0 : c0 ≤ h.2.2) (k : jm_Wf p l e R s m args below meth c Q D dA base G c0 mi hp L [.ref a] h) : jm_Wx p l e R s m args below meth c Q D dA base G (h.2.2 - c0) pc L h a := by
  obtain ⟨-, -, -, -, -, -, -, Vh, Vcast, -⟩ := V
  obtain ⟨X, -, -, htab, K, -⟩ := C
  intro H locs ls rest ce hR hS hL hce hcv hcl
  obtain ⟨z, hz, hcov, hpc, hz0, hw⟩ := Vh mi pc hp hh
  subst hpc
  exact vx_catch X.2.2.2.2.1 [] z [] (by rw [htab, hz]; rfl) (fun _ h => by cases h) hcov hz0 (X.2.2.2.2.2 _ hw) (va_Nw.use rfl (K.2.1 _ Vcast rfl)) hce hcv hcl (k H locs ls hR hS hL hL0 hc0)
def jm_FR (l : Launch) (D : va_G) (dA : Nat → ClassId) (base : Nat) (G : jm_G) (f : Nat) : Prop := ∀ (d mi pc : Nat) (L : jm_L) (st : List Value) (h : jm_H) (r : jm_R), jm_run G f d mi pc L st h = some r → mi < jm_nm → ∀ (p : Program) (e : Env) (R : Room) (s : State) (m : MethodId) (args : Array Value) (below : List Frame) (meth : Method) (c : Code) (Q : State → Prop) (c0 : Nat), jm_CX p s m args meth c D dA base G mi → d + 1 ≤ R.frames → 200 * d + 100 ≤ R.locals → r.2.2.2 - c0 ≤ R.cells → r.2.2.2 - c0 ≤ R.slots → jm_FIN p l e R s m args below meth c Q D dA base G c0 mi r → jm_Wf p l e R s m args below meth c Q D dA base G c0 mi pc L st h
theorem jm_sl_lg : ∀ (as : List Value), (jm_sl as).length = (lg_sl as).length ∧ ∀ (i : Nat) (v : Value), (jm_sl as)[i]? = some (some v) → (lg_sl as)[i]? = some (Slot.val v)
  | [] => ⟨rfl, fun i v h => by simp [jm_sl] at h⟩
  | a :: as => by
    obtain ⟨h1, h2⟩ := jm_sl_lg as
    have two : ∀ x : Value, x.category = 2 → jm_sl (x :: as) = some x :: none :: jm_sl as → (jm_sl (x :: as)).length = (lg_sl (x :: as)).length ∧ ∀ (i : Nat) (v : Value), (jm_sl (x :: as))[i]? = some (some v) → (lg_sl (x :: as))[i]? = some (Slot.val v) := by
      intro x hx e
      have e2 : lg_sl (x :: as) = Slot.val x :: Slot.second :: lg_sl as := by simp [lg_sl, hx]
      rw [e, e2]
      refine ⟨by simp [h1], fun i v h => ?_⟩
      match i, h with
      | 0, h => simpa using h
      | 1, h => simp at h
      | i + 2, h => simpa using h2 i v (by simpa using h)
    have one : ∀ x : Value, x.category = 1 → jm_sl (x :: as) = some x :: jm_sl as → (jm_sl (x :: as)).length = (lg_sl (x :: as)).length ∧ ∀ (i : Nat) (v : Value), (jm_sl (x :: as))[i]? = some (some v) → (lg_sl (x :: as))[i]? = some (Slot.val v) := by
      intro x hx e
      have e2 : lg_sl (x :: as) = Slot.val x :: lg_sl as := by simp [lg_sl, hx]
      rw [e, e2]
      refine ⟨by simp [h1], fun i v h => ?_⟩
      match i, h with
      | 0, h => simpa using h
      | i + 1, h => simpa using h2 i v (by simpa using h)
    cases a with
    | long x => exact two _ rfl rfl
    | double x => exact two _ rfl rfl
    | int x => exact one _ rfl rfl
    | float x => exact one _ rfl rfl
    | null => exact one _ rfl rfl
    | ref x => exact one _ rfl rfl
    | retAddr x => exact one _ rfl rfl
theorem jm_entry {n : Nat} {as : List Value} (hn : (jm_args n as).length = n) : jm_lr (jm_args n as) (lg_sl as ++ List.replicate (n - (lg_sl as).length) Slot.unset).toArray := by
  obtain ⟨h1, h2⟩ := jm_sl_lg as
  have hle : (lg_sl as).length ≤ n := by
    unfold jm_args at hn
    rw [List.length_append, List.length_replicate, h1] at hn
    omega
  have hw := (lv_entry as (n := n) hle)
  refine ⟨by rw [hn]; exact hw.1, hw.2.1, fun i v h => ?_⟩
  unfold jm_args at h
  rw [List.getElem?_toArray]
  by_cases hi : i < (jm_sl as).length
  · rw [List.getElem?_append_left hi] at h
    rw [List.getElem?_append_left (by omega)]
    exact h2 i v h
  · rw [List.getElem?_append_right (by omega)] at h
    have := List.mem_of_getElem? h
    rw [List.mem_replicate] at this
    cases this.2
theorem jm_met_of (V : jm_V) {f : Nat} (hF : jm_FR l D dA base G f) {d m2 : Nat} {as : List Value} {h : jm_H} {r : jm_R} (hr : jm_run G f d m2 0 (jm_args (jm_mxl m2) as) [] h = some r) (hok : jm_okm m2) (hlen : (jm_args (jm_mxl m2) as).length = jm_mxl m2) : jm_MetP l D dA base G m2 d as h r := by
  have hcost := jm_run_cost _ _ _ _ _ _ _ _ hr
  obtain ⟨v1, v2, v3, v4, v5, v6, v7⟩ := V.2.2.2.2.2.1 m2 hok
  have body : ∀ (ws : List Jvm.Cond) (hws : ∀ w ∈ lw_all, w ∈ ws) (p : Program) (e : Env) (s : State) (m : MethodId) (args : Array Value) (below : List Frame) (meth : Method) (c : Code) (s₁ : State), BodyLoose p l (jm_mnm m2) (headSpec ws (jm_rm d (r.2.2.2 - h.2.2))) (jm_code m2) (jm_mxl m2) (jm_ret m2) e s m args below meth c s₁ → c.maxLocals = jm_mxl m2 → c.exceptionTable.toList = tableOf (jm_hh m2) → jm_Pc D dA base G as h args s →
      W p l e (jm_rm d (r.2.2.2 - h.2.2)) s m args below meth c s.heap [] 0 0 (vx_MQ below (jm_Qc D dA base G r) (jm_XC D dA base G r) args s (r.2.2.2 - h.2.2) (r.2.2.2 - h.2.2) (jm_Aw base)) (entryFrame m args (jm_mxl m2)) := by
    intro ws hws p e s m args below meth c s₁ B hml htab hv
    obtain ⟨rfl, hrep, hK, hZ⟩ := hv
    have hts := atoms_spec (ws := ws) B.pre
    have hts : ∀ w ∈ lw_all, w.before as.toArray s = true := fun w hw => hts w (hws w hw)
    have hown : s.vm.findClass (jm_onm (jm_own m2)) = some m.cls := by
      rw [← v2]
      exact findClass_of_methodNamed B.named
    have X : jm_cx p s m as.toArray meth c m2 := ⟨B.exec, B.bytes, B.notSynchronized, hml, hown, hts⟩
    have C : jm_CX p s m as.toArray meth c D dA base G m2 := ⟨X, (name_of_methodNamed B.named B.method).1, B.returns, htab, hK, hZ⟩
    have hS : va_S (jm_Aw base) s.heap s.heap [] := va_S.rf
    have fin : jm_FIN p l e (jm_rm d (r.2.2.2 - h.2.2)) s m as.toArray below meth c (vx_MQ below (jm_Qc D dA base G r) (jm_XC D dA base G r) as.toArray s (r.2.2.2 - h.2.2) (r.2.2.2 - h.2.2) (jm_Aw base)) D dA base G h.2.2 m2 r := by
      refine ⟨fun pc' L' st' v hv hs H locs ls hR hS hL hl0 hc0 => ?_, fun a pc' L' hv hV hh H locs ls rest ce hR hS hL hce hcv hcl => ?_⟩
      · have hq : ∀ t : State, t.heap = H → s.WarmedH t.vm → jm_Qc D dA base G r as.toArray s (.returned v) t := fun t ht _ => ⟨⟨v, hv, rfl⟩, by rw [ht]; exact hR, hS.F ht⟩
        unfold jm_step at hs
        split at hs
        · rename_i i len hd
          split at hs
          · rename_i hlk
            obtain ⟨hs, hc1, hc2, -⟩ := jm_chk_of hs
            have hx := jm_ex_end hs
            have hr9 := B.returns
            have hlocks := B.notSynchronized
            refine vx_ret ?_
            rcases hx with ⟨rfl, rfl, q⟩ | ⟨rfl, y, rfl, q⟩ | ⟨rfl, y, rfl, q⟩ | ⟨rfl, y, rfl, hA, q⟩ | ⟨rfl, a, r9, V9, rfl, h9, q⟩
            · have hn := eq_of_beq hlk
              subst hn
              have hv9 : v = none := by cases q; rfl
              subst hv9
              exact W.vret B.exec B.bytes (hr9.trans (hc2 _ rfl)) hq hS.2.2 hd hlocks
            · have hn := eq_of_beq hlk
              subst hn
              have hv9 : v = some (.int y) := by cases q; rfl
              subst hv9
              obtain ⟨ty, e1, e2⟩ := hc1 _ _ rfl
              exact W.zret B.exec B.bytes (hr9.trans e1) (jm_fit_nar e2).1 hq hS.2.2 hd hlocks
            · have hn := eq_of_beq hlk
              subst hn
              have hv9 : v = some (.long y) := by cases q; rfl
              subst hv9
              obtain ⟨ty, e1, e2⟩ := hc1 _ _ rfl
              have e3 : ty = .long := by cases ty <;> simp [jm_fit] at e2 <;> rfl
              subst e3
              exact W.lret B.exec B.bytes (hr9.trans e1) hq hS.2.2 hd hlocks
            · have hn := eq_of_beq hlk
              subst hn
              have hv9 : v = some y := by cases q; rfl
              subst hv9
              obtain ⟨ty, e1, e2⟩ := hc1 _ _ rfl
              have hA9 := jm_isA_of hA
              have e3 : (∃ n, ty = .object n) ∨ ∃ t, ty = .array t := by
                rcases hA9 with ⟨a, rfl⟩ | rfl <;> cases ty <;> simp [jm_fit] at e2 <;> first | exact Or.inl ⟨_, rfl⟩ | exact Or.inr ⟨_, rfl⟩
              exact W.aret B.exec B.bytes (hr9.trans e1) e3 (by rcases hA9 with h | h; exact Or.inr h; exact Or.inl h) hq hS.2.2 hd hlocks
            · cases q
          · cases hs
        · cases hs
      · obtain ⟨-, -, -, -, -, -, Vn, -⟩ := V
        exact vx_out (fun x hx => Vn m2 pc' hh x (by rw [← htab]; exact hx)) B.notSynchronized hce hcv hcl (fun t ht _ => ⟨hv, rfl, hV, by rw [ht]; exact hR, hS.F ht⟩) hS.2.2 (Nat.le_refl _) (Nat.le_refl _)
    have key := hF d m2 0 _ _ _ _ hr hok.2.1 p e (jm_rm d (r.2.2.2 - h.2.2)) s m as.toArray below meth c _ h.2.2 C (Nat.le_refl _) (Nat.le_refl _) (Nat.le_refl _) (Nat.le_refl _) fin s.heap [] (lg_sl as ++ List.replicate (jm_mxl m2 - (lg_sl as).length) Slot.unset).toArray hrep hS (jm_entry hlen) hlen (Nat.le_refl _)
    rw [Nat.sub_self] at key
    rw [lg_entry_eq]
    exact key
  refine ⟨fun hh => ?_, fun hh => ?_⟩
  · refine vx_ofW (cc := jm_code m2) (maxL := jm_mxl m2) (ret := jm_ret m2) v1 rfl ?_
    intro p e s m args below meth c s₁ B hml hnt hv
    refine body _ (fun w hw => List.mem_cons_of_mem _ hw) p e s m args below meth c s₁ B hml ?_ hv
    rw [hh]
    cases ht : c.exceptionTable.toList with
    | nil => rfl
    | cons z zs => exact (hnt z (by rw [ht]; exact List.mem_cons_self)).elim
  · refine vx_ofWH (cc := jm_code m2) (maxL := jm_mxl m2) (ret := jm_ret m2) (hh := jm_hh m2) v1 rfl ?_
    intro p e s m args below meth c s₁ B hml hv
    refine body _ (fun w hw => List.mem_cons_of_mem _ hw) p e s m args below meth c s₁ B hml ?_ hv
    exact vx_table (x := jm_mnm m2) B (atoms_spec (ws := jm_wsh m2) B.pre _ List.mem_cons_self)
end JMX
