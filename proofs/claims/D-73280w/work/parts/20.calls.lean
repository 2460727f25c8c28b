/-! CALLS: what a callee owes in the small machine's words, and how a call's row goes on -/
def jm_plen (d : String) (n : Nat) : Prop := (parseMethodDescriptor d).map (fun d => d.parameters.length) = some n
def jm_nmh (c : String) : Prop := c ≠ "java/lang/invoke/MethodHandle" ∧ c ≠ "java/lang/invoke/VarHandle"
abbrev jm_wsl (mi : Nat) : List Jvm.Cond := ws_ (jm_mnm mi) (jm_code mi) (jm_mxl mi) (jm_ret mi)
abbrev jm_wsh (mi : Nat) : List Jvm.Cond := wsW_ (jm_mnm mi) (jm_code mi) (jm_mxl mi) (jm_ret mi) (jm_hh mi)
def jm_rm (d K : Nat) : Room := { frames := d + 1, cells := K, slots := K, locals := 200 * d + 100 }
def jm_Pc (D : va_G) (dA : Nat → ClassId) (base : Nat) (G : jm_G) (as : List Value) (h : jm_H) : Array Value → State → Prop := fun v U => v = as.toArray ∧ jm_rep D dA base G h U.heap ∧ jm_K D dA G U ∧ jm_Z G base U U.heap
def jm_Qc (D : va_G) (dA : Nat → ClassId) (base : Nat) (G : jm_G) (r : jm_R) : Array Value → State → Outcome → State → Prop := fun _ st o t => (∃ v, r.1 = .inl v ∧ o = .returned v) ∧ jm_rep D dA base G r.2 t.heap ∧ va_F (jm_Aw base) st t
def jm_XC (D : va_G) (dA : Nat → ClassId) (base : Nat) (G : jm_G) (r : jm_R) : Addr → String → State → State → Prop := fun q E st t => r.1 = .inr q ∧ E = "GroupJournal$Fault" ∧ (∃ V, r.2.1 q = some (.inl (jm_fc, V))) ∧ jm_rep D dA base G r.2 t.heap ∧ va_F (jm_Aw base) st t
def jm_MetP (l : Launch) (D : va_G) (dA : Nat → ClassId) (base : Nat) (G : jm_G) (mi d : Nat) (as : List Value) (h : jm_H) (r : jm_R) : Prop :=
  (jm_hh mi = [] → vx_Met l (jm_mnm mi) (jm_wsl mi) (jm_rm d (r.2.2.2 - h.2.2)) (jm_Pc D dA base G as h) (jm_Qc D dA base G r) (jm_XC D dA base G r) (r.2.2.2 - h.2.2) (r.2.2.2 - h.2.2) (jm_Aw base)) ∧
  (jm_hh mi ≠ [] → vx_Met l (jm_mnm mi) (jm_wsh mi) (jm_rm d (r.2.2.2 - h.2.2)) (jm_Pc D dA base G as h) (jm_Qc D dA base G r) (jm_XC D dA base G r) (r.2.2.2 - h.2.2) (r.2.2.2 - h.2.2) (jm_Aw base))
def jm_Vm (mi : Nat) : Prop := plainFor (jm_mnm mi) = true ∧ (jm_mnm mi).cls = jm_onm (jm_own mi) ∧ jm_mxl mi ≤ 100 ∧ (Jvm.Cond.initialized (jm_mnm mi).cls) ∈ lw_all ∧ jm_nmh (jm_mnm mi).cls ∧ (jm_hh mi = [] → (Jvm.Cond.code (jm_mnm mi) (jm_code mi) (jm_mxl mi) (jm_ret mi)) ∈ lw_all) ∧ (jm_hh mi ≠ [] → (Jvm.Cond.codeWith (jm_mnm mi) (jm_code mi) (jm_mxl mi) (jm_ret mi) (jm_hh mi)) ∈ lw_all)
def jm_lnk (o x : Nat) (y : MethodName) : Prop := (Jvm.Cond.methodLink (jm_onm o) x y) ∈ lw_all ∨ ∃ host, (Jvm.Cond.methodLinkNest (jm_onm o) x y host) ∈ lw_tbl
def jm_Vi0 (o x n m2 : Nat) : Prop := jm_hh m2 = [] ∧ (Jvm.Cond.static (jm_mnm m2)) ∈ lw_all ∧ jm_plen (jm_mnm m2).desc n ∧ jm_lnk o x (jm_mnm m2)
def jm_Vi1 (o x n m2 : Nat) : Prop := jm_hh m2 = [] ∧ (Jvm.Cond.instanceMethod (jm_mnm m2)) ∈ lw_all ∧ jm_plen (jm_mnm m2).desc n ∧ (((jm_mnm m2).name = "<init>" ∧ jm_ret m2 = none ∧ jm_lnk o x (jm_mnm m2)) ∨ ((jm_mnm m2).name ≠ "<init>" ∧ (Jvm.Cond.methodLink (jm_onm o) x (jm_mnm m2)) ∈ lw_all ∧ (Jvm.Cond.sameMethod (jm_mnm m2).cls (jm_mnm m2).cls (jm_mnm m2).name (jm_mnm m2).desc) ∈ lw_all ∧ (Jvm.Cond.superclass (jm_onm o) (jm_mnm m2).cls) ∈ lw_all))
def jm_Vi3 (o x n ci m2 : Nat) : Prop := ∃ (C : String) (T : u_T) (N : Nat), jcl[ci]? = some (C, T, N) ∧ (Jvm.Cond.instanceMethod (jm_mnm m2)) ∈ lw_all ∧
  ((jm_hh m2 = [] ∧ (jm_mnm m2).cls = C ∧ jm_plen (jm_mnm m2).desc n ∧ (Jvm.Cond.selects C (jm_mnm m2) (jm_mnm m2)) ∈ lw_all ∧ jm_lnk o x (jm_mnm m2)) ∨
   (jm_hh m2 ≠ [] ∧ (jm_mnm m2).cls = C ∧ jm_plen (jm_mnm m2).desc n ∧ (Jvm.Cond.selects C (jm_mnm m2) (jm_mnm m2)) ∈ lw_all ∧ (Jvm.Cond.methodLink (jm_onm o) x (jm_mnm m2)) ∈ lw_all) ∨
   (jm_hh m2 = [] ∧ ∃ (xx : MethodName) (owner : String), (Jvm.Cond.methodLink (jm_onm o) x xx) ∈ lw_all ∧ (Jvm.Cond.sameMethod xx.cls owner xx.name xx.desc) ∈ lw_all ∧ (Jvm.Cond.selects C xx (jm_mnm m2)) ∈ lw_all ∧ jm_plen xx.desc n ∧ jm_nmh owner ∧
     (jm_mnm m2 = ⟨owner, xx.name, xx.desc⟩ ∨ ((Jvm.Cond.instanceMethod ⟨owner, xx.name, xx.desc⟩) ∈ lw_all ∧ ∃ b0 m0 r0, (Jvm.Cond.code ⟨owner, xx.name, xx.desc⟩ b0 m0 r0) ∈ lw_all) ∨ (Jvm.Cond.declares ⟨owner, xx.name, xx.desc⟩) ∈ lw_tbl)))
def jm_Vi6 (o x n ci m2 : Nat) : Prop := ∃ (C : String) (T : u_T) (N : Nat) (xx : MethodName), jcl[ci]? = some (C, T, N) ∧ jm_hh m2 = [] ∧ (Jvm.Cond.methodLink (jm_onm o) x xx) ∈ lw_all ∧ (Jvm.Cond.selects C xx (jm_mnm m2)) ∈ lw_all ∧ (Jvm.Cond.instanceMethod (jm_mnm m2)) ∈ lw_all ∧ (C, xx, jm_mnm m2) ∈ jm_ifs ∧ jm_plen xx.desc n ∧ jm_nmh xx.cls
section JMK
variable {D : va_G} {dA : Nat → ClassId} {base : Nat} {G : jm_G}
theorem jm_K.warm {s U : State} (hW : s.WarmedH U.vm) (hif : ∀ q ∈ jm_ifs, jm_nmh q.2.1.cls) (K : jm_K D dA G s) : jm_K D dA G U := by
  obtain ⟨k1, k2, k3, k4, k5, k6, k7, k8, k9⟩ := K
  have hal := hW.alike
  refine ⟨va_K.moved hal k1, fun w hw hn => ?_, fun q hq => va_Fw.moved (hif q hq) hal (k3 q hq), fun C hC => va_AO.moved hal (k4 C hC), ?_, fun q hq => va_Nc.moved hal (k6 q hq), fun z hz => ?_, fun z hz => ?_, va_Dc.moved hal k9⟩
  · have h0 := k2 w hw hn
    cases w <;> first | exact va_Nw.warmF hW h0 | exact va_Nw.warmM hW h0 | exact va_Nw.warmC hW h0 | exact va_Nw.warmD hW h0 | (simp [jm_isn] at hn)
  · have h1 : (Jvm.Cond.arrayOver (.array .int)).before #[] (s.setVm U.vm) = true := by
      rw [Cond.arrayOver_setVmC hal]
      exact k5
    exact h1
  · obtain ⟨a, ea, hr⟩ := k7 z hz
    exact ⟨a, ea, hr.warm hW⟩
  · obtain ⟨a, ea, hr⟩ := k8 z hz
    exact ⟨a, ea, hr.moved hal⟩
theorem jm_Z.go {s U : State} {H H1 : Heap} (hW : s.vm.Alike U.vm) (h : jm_Z G base s H) (hq : ∀ a : Nat, a < H.size → ¬ jm_Aw base a → H1[a]? = H[a]?) : jm_Z G base U H1 := fun z hz => ((h z hz).moved hW).kept hq
theorem jm_Pc_blind {as : List Value} {h : jm_H} (hif : ∀ q ∈ jm_ifs, jm_nmh q.2.1.cls) : FrameBlind (jm_Pc D dA base G as h) := by
  intro a U g mk q
  obtain ⟨q0, qR, qK, qZ⟩ := q
  have hW : U.WarmedH (U.calling g mk a).vm := State.WarmedH.refl _
  exact ⟨q0, qR, jm_K.warm hW hif qK, jm_Z.go (Vm.Alike.refl U.vm) qZ (fun _ _ _ => rfl)⟩
end JMK
section JMRW
variable {p : Program} {l : Launch} {e : Env} {R : Room} {s : State} {m : MethodId} {args : Array Value} {below : List Frame} {meth : Method} {c : Code} {Q : State → Prop} {D : va_G} {dA : Nat → ClassId} {base : Nat} {G : jm_G} {mi pc : Nat} {H : Heap} {locs : List Loc} {ls : Array Slot} {st0 rest : List Value} {k1 k2 : Nat} {a : Array Value} {r : jm_R}
/-- the frame with q thrown over it comes to Q -/
def jm_Wx (p : Program) (l : Launch) (e : Env) (R : Room) (s : State) (m : MethodId) (args : Array Value) (below : List Frame) (meth : Method) (c : Code) (Q : State → Prop) (D : va_G) (dA : Nat → ClassId) (base : Nat) (G : jm_G) (k : Nat) (pc : Nat) (L : jm_L) (h : jm_H) (q : Addr) : Prop :=
  ∀ (H : Heap) (locs : List Loc) (ls : Array Slot) (rest : List Value) (ce : Cell), jm_rep D dA base G h H → va_S (jm_Aw base) s.heap H locs → jm_lr L ls → H[q]? = some ce → ce.vm = .none → s.vm.findClass "GroupJournal$Fault" = some ce.cls → vx_W p l e R s m args below meth c H locs k k Q (F0 m pc ls rest) q
theorem jm_run_W {L : jm_L} (hr : vx_Run p l e R s m args below meth c H locs k1 k1 k2 k2 (F0 m pc ls st0) rest (jm_Qc D dA base G r a) (jm_XC D dA base G r) (jm_Aw base)) (hS : va_S (jm_Aw base) s.heap H locs) (hL : jm_lr L ls)
    (kk : ∀ v, r.1 = .inl v → ∀ (H1 : Heap) (locs1 : List Loc), jm_rep D dA base G r.2 H1 → va_S (jm_Aw base) s.heap H1 locs1 → W p l e R s m args below meth c H1 locs1 (k1 + k2) (k1 + k2) Q (F0 m (pc + 3) ls (v.toList ++ rest)))
    (kx : ∀ q, r.1 = .inr q → jm_Wx p l e R s m args below meth c Q D dA base G (k1 + k2) pc L r.2 q) : W p l e R s m args below meth c H locs k1 k1 Q (F0 m pc ls st0) := by
  intro T hT X
  rcases hr T hT X with ⟨v, st₀, t, T', L9, h0, X', hLf, e1, e2, ⟨⟨v', hv', hv⟩, hrep, hF⟩, st⟩ | ⟨q, st₀, t, T', L9, E, ce, h0, X', hLf, e1, e2, ⟨hq, hE, hV, hrep, hF⟩, hce, hcv, hcl, st⟩
  · cases hv
    obtain ⟨-, -, k3⟩ := vx_keep h0 e1 hS (fun q _ z => z) (fun q z => z) hLf hF
    obtain ⟨t2, a1, b1⟩ := kk v hv' T'.heap (locs ++ L9) (by rw [e1]; exact hrep) k3 T' rfl X'
    exact ⟨t2, st t2 a1, b1⟩
  · subst hE
    obtain ⟨-, -, k3⟩ := vx_keep h0 e1 hS (fun q _ z => z) (fun q z => z) hLf hF
    obtain ⟨t2, a1, b1⟩ := kx q hq T'.heap (locs ++ L9) ls rest ce (by rw [e1]; exact hrep) k3 hL (by rw [e1]; exact hce) hcv hcl T' rfl X'
    exact ⟨t2, st.trans a1, b1⟩
theorem jm_run5_W {L : jm_L} (hr : vx_Run5 p l e R s m args below meth c H locs k1 k1 k2 k2 (F0 m pc ls st0) rest (jm_Qc D dA base G r a) (jm_XC D dA base G r) (jm_Aw base)) (hS : va_S (jm_Aw base) s.heap H locs) (hL : jm_lr L ls)
    (kk : ∀ v, r.1 = .inl v → ∀ (H1 : Heap) (locs1 : List Loc), jm_rep D dA base G r.2 H1 → va_S (jm_Aw base) s.heap H1 locs1 → W p l e R s m args below meth c H1 locs1 (k1 + k2) (k1 + k2) Q (F0 m (pc + 5) ls (v.toList ++ rest)))
    (kx : ∀ q, r.1 = .inr q → jm_Wx p l e R s m args below meth c Q D dA base G (k1 + k2) pc L r.2 q) : W p l e R s m args below meth c H locs k1 k1 Q (F0 m pc ls st0) := by
  intro T hT X
  rcases hr T hT X with ⟨v, st₀, t, T', L9, h0, X', hLf, e1, e2, ⟨⟨v', hv', hv⟩, hrep, hF⟩, st⟩ | ⟨q, st₀, t, T', L9, E, ce, h0, X', hLf, e1, e2, ⟨hq, hE, hV, hrep, hF⟩, hce, hcv, hcl, st⟩
  · cases hv
    obtain ⟨-, -, k3⟩ := vx_keep h0 e1 hS (fun q _ z => z) (fun q z => z) hLf hF
    obtain ⟨t2, a1, b1⟩ := kk v hv' T'.heap (locs ++ L9) (by rw [e1]; exact hrep) k3 T' rfl X'
    exact ⟨t2, st t2 a1, b1⟩
  · subst hE
    obtain ⟨-, -, k3⟩ := vx_keep h0 e1 hS (fun q _ z => z) (fun q z => z) hLf hF
    obtain ⟨t2, a1, b1⟩ := kx q hq T'.heap (locs ++ L9) ls rest ce (by rw [e1]; exact hrep) k3 hL (by rw [e1]; exact hce) hcv hcl T' rfl X'
    exact ⟨t2, st.trans a1, b1⟩
end JMRW
section JMCL
variable {p : Program} {l : Launch} {e : Env} {R : Room} {s : State} {m : MethodId} {args : Array Value} {below : List Frame} {meth : Method} {c : Code} {Q : State → Prop} {D : va_G} {dA : Nat → ClassId} {base : Nat} {G : jm_G} {c0 mi pc x n m2 d : Nat} {L : jm_L} {st rest as : List Value} {h : jm_H} {r : jm_R}
/-- where a call goes on -/
def jm_go (p : Program) (l : Launch) (e : Env) (R : Room) (s : State) (m : MethodId) (args : Array Value) (below : List Frame) (meth : Method) (c : Code) (Q : State → Prop) (D : va_G) (dA : Nat → ClassId) (base : Nat) (G : jm_G) (c0 mi pc pc' : Nat) (L : jm_L) (st' : List Value) (r : jm_R) : Prop :=
  (∀ v, r.1 = .inl v → jm_Wf p l e R s m args below meth c Q D dA base G c0 mi pc' L (v.toList ++ st') r.2) ∧ ∀ q, r.1 = .inr q → jm_Wx p l e R s m args below meth c Q D dA base G (r.2.2.2 - c0) pc L r.2 q
theorem jm_fixA (X : jm_cx p s m args meth c mi) : CallFix p m c (jm_code mi) (jm_mxl mi) s args lw_all (jm_onm (jm_own mi)) := ⟨X.1, X.2.1, X.2.2.2.1, X.2.2.2.2.1, X.2.2.2.2.2⟩
theorem jm_preS (K : jm_K D dA G s) (Z : jm_Z G base s s.heap) (hif : ∀ q ∈ jm_ifs, jm_nmh q.2.1.cls) {H : Heap} {locs : List Loc} (hR : jm_rep D dA base G h H) (hS : va_S (jm_Aw base) s.heap H locs) : PreS s H (jm_Pc D dA base G as h) as :=
  ⟨jm_Pc_blind hif, fun U hU hW => ⟨rfl, by rw [hU]; exact hR, jm_K.warm hW hif K, by rw [hU]; exact jm_Z.go hW.alike Z hS.2.1⟩⟩
theorem jm_preV (K : jm_K D dA G s) (Z : jm_Z G base s s.heap) (hif : ∀ q ∈ jm_ifs, jm_nmh q.2.1.cls) {H : Heap} {locs : List Loc} {b : Nat} {C : String} {T : u_T} {N : Nat} {o : Nat × (Nat → Value)} (hR : jm_rep D dA base G h H) (hS : va_S (jm_Aw base) s.heap H locs) (ho : jm_look G h b = some (.inl o)) (hcl : jcl[o.1]? = some (C, T, N)) : PreV s H C b (jm_Pc D dA base G (.ref b :: as) h) as :=
  ⟨jm_Pc_blind hif, jm_recv K (hR.look ho) hcl, fun U hU hW => ⟨rfl, by rw [hU]; exact hR, jm_K.warm hW hif K, by rw [hU]; exact jm_Z.go hW.alike Z hS.2.1⟩⟩
theorem jm_lw_nest {y : MethodName} {b : ByteArray} {mL : Nat} {rt : Option FieldType} (h : (Jvm.Cond.code y b mL rt) ∈ lw_all) : GoodIn lw_all (ws_ y b mL rt) := lw_meth h
theorem jm_call0 (X : jm_cx p s m args meth c mi) (K : jm_K D dA G s) (Z : jm_Z G base s s.heap) (hif : ∀ q ∈ jm_ifs, jm_nmh q.2.1.cls) (Vm : jm_Vm m2) (hM : jm_MetP l D dA base G m2 d as h r) (hRf : d + 2 ≤ R.frames) (hRl : 200 * d + 300 ≤ R.locals) (hlen : rest.length ≤ 4) (hcost : h.2.2 ≤ r.2.2.2) (hrm : r.2.2.2 - c0 ≤ R.cells ∧ r.2.2.2 - c0 ≤ R.slots) (Vi : jm_Vi0 (jm_own mi) x n m2) (hn : as.length = n) (hst : st = as.reverse ++ rest) (hd : decode (jm_code mi) pc = .ok (.invokestatic x, 3)) (k : jm_go p l e R s m args below meth c Q D dA base G c0 mi pc (pc + 3) L rest r) : jm_Wf p l e R s m args below meth c Q D dA base G c0 mi pc L st h := by
  intro H locs ls hR hS hL hl0 hc0
  obtain ⟨hh, w1, w2, w3⟩ := Vi
  obtain ⟨v1, v2, v3, v4, v5, v6, -⟩ := Vm
  have hcode := v6 hh
  have hcat := jm_cats rest
  have e9 : h.2.2 - c0 + (r.2.2.2 - h.2.2) = r.2.2.2 - c0 := by omega
  have run : vx_Run p l e R s m args below meth c H locs (h.2.2 - c0) (h.2.2 - c0) (r.2.2.2 - h.2.2) (r.2.2.2 - h.2.2) (F0 m pc ls st) rest (jm_Qc D dA base G r as.toArray) (jm_XC D dA base G r) (jm_Aw base) := by
    rcases w3 with w3 | ⟨host, w3⟩
    · exact vx_runS (jm_fixA X) (hM.1 hh) (va_cwS n X.2.2.2.2.2 (lw_S w3 w1 v4 hcode) rfl rfl rfl ⟨v5.1, v5.2, w2⟩ ⟨by show d + 1 + 1 ≤ _; omega, by show 8 + (_ + 11) + (200 * d + 100) ≤ _; omega⟩) (jm_preS K Z hif hR hS) rfl hn (by rw [← hl0]; exact hL.1) hst (by show 2 * 0 + _ ≤ _; omega) hd ⟨by omega, by omega⟩
    · exact vx_runSN (jm_fixA X) (hM.1 hh) ⟨va_cnB n X.2.2.2.2.2 (lw_meth hcode) rfl rfl rfl (K.2.1 _ w3 rfl) (X.2.2.2.2.2 _ v4) ⟨v5.1, v5.2, w2⟩ ⟨by show d + 1 + 1 ≤ _; omega, by show 8 + (_ + 11) + (200 * d + 100) ≤ _; omega⟩, X.2.2.2.2.2 _ w1, trivial⟩ (jm_preS K Z hif hR hS) rfl hn (by rw [← hl0]; exact hL.1) hst (by show 2 * 0 + _ ≤ _; omega) hd ⟨by omega, by omega⟩
  exact jm_run_W run hS hL (fun v hv H1 locs1 r1 r2 => by rw [e9]; exact k.1 v hv H1 locs1 ls r1 r2 hL hl0 (by omega)) (fun q hq => by rw [e9]; exact k.2 q hq)
theorem jm_call1 (X : jm_cx p s m args meth c mi) (K : jm_K D dA G s) (Z : jm_Z G base s s.heap) (hif : ∀ q ∈ jm_ifs, jm_nmh q.2.1.cls) (Vm : jm_Vm m2) (hM : jm_MetP l D dA base G m2 d as h r) (hRf : d + 2 ≤ R.frames) (hRl : 200 * d + 300 ≤ R.locals) (hlen : rest.length ≤ 4) (hcost : h.2.2 ≤ r.2.2.2) (hrm : r.2.2.2 - c0 ≤ R.cells ∧ r.2.2.2 - c0 ≤ R.slots) {a : Nat} {as' : List Value} (has : as = .ref a :: as') {o : Nat × (Nat → Value)} (ho : jm_look G h a = some (.inl o)) (hoc : o.1 < jcl.length) (Vi : jm_Vi1 (jm_own mi) x n m2) (hn : as'.length = n) (hst : st = as'.reverse ++ .ref a :: rest) (hd : decode (jm_code mi) pc = .ok (.invokespecial x, 3)) (k : jm_go p l e R s m args below meth c Q D dA base G c0 mi pc (pc + 3) L rest r) : jm_Wf p l e R s m args below meth c Q D dA base G c0 mi pc L st h := by
  intro H locs ls hR hS hL hl0 hc0
  subst has
  obtain ⟨hh, w1, w2, w3⟩ := Vi
  obtain ⟨v1, v2, v3, v4, v5, v6, -⟩ := Vm
  have hcode := v6 hh
  have hcat := jm_cats rest
  have e9 : h.2.2 - c0 + (r.2.2.2 - h.2.2) = r.2.2.2 - c0 := by omega
  have run : vx_Run p l e R s m args below meth c H locs (h.2.2 - c0) (h.2.2 - c0) (r.2.2.2 - h.2.2) (r.2.2.2 - h.2.2) (F0 m pc ls st) rest (jm_Qc D dA base G r (Value.ref a :: as').toArray) (jm_XC D dA base G r) (jm_Aw base) := by
    rcases w3 with ⟨z1, z2, z3⟩ | ⟨z1, z2, z3, z4⟩
    · have hM1 := hM.1 hh
      unfold jm_wsl at hM1
      rw [z2] at hM1 hcode
      rcases z3 with z3 | ⟨host, z3⟩
      · exact vx_runI (jm_fixA X) hM1 (cwI n X.2.2.2.2.2 (lw_meth hcode) rfl rfl rfl (X.2.2.2.2.2 _ v4) (X.2.2.2.2.2 _ z3) (X.2.2.2.2.2 _ w1) z1 ⟨v5.1, v5.2, w2⟩ ⟨by show d + 1 + 1 ≤ _; omega, by show 8 + (_ + 11) + (200 * d + 100) ≤ _; omega⟩) (jm_preS K Z hif hR hS) rfl hn (by rw [← hl0]; exact hL.1) hst (by show 2 * 0 + _ ≤ _; omega) hd ⟨by omega, by omega⟩
      · exact vx_runIN (jm_fixA X) hM1 ⟨va_cnB n X.2.2.2.2.2 (lw_meth hcode) rfl rfl rfl (K.2.1 _ z3 rfl) (X.2.2.2.2.2 _ v4) ⟨v5.1, v5.2, w2⟩ ⟨by show d + 1 + 1 ≤ _; omega, by show 8 + (_ + 11) + (200 * d + 100) ≤ _; omega⟩, z1, X.2.2.2.2.2 _ w1⟩ (jm_preS K Z hif hR hS) rfl hn (by rw [← hl0]; exact hL.1) hst (by show 2 * 0 + _ ≤ _; omega) hd ⟨by omega, by omega⟩
    · have hcl : jcl[o.1]? = some jcl[o.1] := List.getElem?_eq_getElem hoc
      have hG : GoodIn lw_all (va_wsSU (jm_onm (jm_own mi)) x (jm_mnm m2) (jm_wsl m2)) := by
        refine lw_app ?_ (lw_meth hcode)
        intro w hw
        simp only [List.mem_cons, List.not_mem_nil, or_false] at hw
        rcases hw with e | e | e | e | e
        · rw [e]; exact z2
        · rw [e]; exact z3
        · rw [e]; exact z4
        · rw [e]; exact w1
        · rw [e]; exact v4
      exact vx_runSU (K.1.1 _ _ hcl).2 (jm_fixA X) (hM.1 hh) (va_cwSU n X.2.2.2.2.2 hG rfl rfl rfl ⟨z1, w2⟩ ⟨by show d + 1 + 1 ≤ _; omega, by show 8 + (_ + 11) + (200 * d + 100) ≤ _; omega⟩) (jm_preV (C := (jcl[o.1]).1) (T := (jcl[o.1]).2.1) (N := (jcl[o.1]).2.2) K Z hif hR hS ho hcl) rfl hn (by rw [← hl0]; exact hL.1) hst (by show 2 * 0 + _ ≤ _; omega) hd ⟨by omega, by omega⟩
  exact jm_run_W run hS hL (fun v hv H1 locs1 r1 r2 => by rw [e9]; exact k.1 v hv H1 locs1 ls r1 r2 hL hl0 (by omega)) (fun q hq => by rw [e9]; exact k.2 q hq)
theorem jm_call3 (X : jm_cx p s m args meth c mi) (K : jm_K D dA G s) (Z : jm_Z G base s s.heap) (hif : ∀ q ∈ jm_ifs, jm_nmh q.2.1.cls) (Vm : jm_Vm m2) (hM : jm_MetP l D dA base G m2 d as h r) (hRf : d + 2 ≤ R.frames) (hRl : 200 * d + 300 ≤ R.locals) (hlen : rest.length ≤ 4) (hcost : h.2.2 ≤ r.2.2.2) (hrm : r.2.2.2 - c0 ≤ R.cells ∧ r.2.2.2 - c0 ≤ R.slots) {a : Nat} {as' : List Value} (has : as = .ref a :: as') {o : Nat × (Nat → Value)} (ho : jm_look G h a = some (.inl o)) (Vi : jm_Vi3 (jm_own mi) x n o.1 m2) (hn : as'.length = n) (hst : st = as'.reverse ++ .ref a :: rest) (hd : decode (jm_code mi) pc = .ok (.invokevirtual x, 3)) (k : jm_go p l e R s m args below meth c Q D dA base G c0 mi pc (pc + 3) L rest r) : jm_Wf p l e R s m args below meth c Q D dA base G c0 mi pc L st h := by
  intro H locs ls hR hS hL hl0 hc0
  subst has
  obtain ⟨C, T, N, hcl, w1, w3⟩ := Vi
  obtain ⟨v1, v2, v3, v4, v5, v6, v7⟩ := Vm
  have hcat := jm_cats rest
  have e9 : h.2.2 - c0 + (r.2.2.2 - h.2.2) = r.2.2.2 - c0 := by omega
  have hV := jm_preV (as := as') K Z hif hR hS ho hcl
  have run : vx_Run p l e R s m args below meth c H locs (h.2.2 - c0) (h.2.2 - c0) (r.2.2.2 - h.2.2) (r.2.2.2 - h.2.2) (F0 m pc ls st) rest (jm_Qc D dA base G r (Value.ref a :: as').toArray) (jm_XC D dA base G r) (jm_Aw base) := by
    rcases w3 with ⟨hh, hC, z1, z2, z3⟩ | ⟨hh, hC, z1, z2, z3⟩ | ⟨hh, xx, owner, z1, z2, z3, z4, z5, z6⟩
    · subst hC
      rcases z3 with z3 | ⟨host, z3⟩
      · exact vx_runV (jm_fixA X) (hM.1 hh) (cwV n X.2.2.2.2.2 (lw_V z3 w1 z2 v4 (v6 hh)) rfl rfl rfl ⟨rfl, v5.1, v5.2, z1⟩ ⟨by show d + 1 + 1 ≤ _; omega, by show 8 + (_ + 11) + (200 * d + 100) ≤ _; omega⟩) hV rfl hn (by rw [← hl0]; exact hL.1) hst (by show 2 * 0 + _ ≤ _; omega) hd ⟨by omega, by omega⟩
      · exact vx_runVN (jm_fixA X) (hM.1 hh) ⟨va_cnB n X.2.2.2.2.2 (lw_meth (v6 hh)) rfl rfl rfl (K.2.1 _ z3 rfl) (X.2.2.2.2.2 _ v4) ⟨v5.1, v5.2, z1⟩ ⟨by show d + 1 + 1 ≤ _; omega, by show 8 + (_ + 11) + (200 * d + 100) ≤ _; omega⟩, X.2.2.2.2.2 _ w1, X.2.2.2.2.2 _ z2⟩ hV rfl hn (by rw [← hl0]; exact hL.1) hst (by show 2 * 0 + _ ≤ _; omega) hd ⟨by omega, by omega⟩
    · subst hC
      exact vx_runVX (jm_fixA X) (hM.2 hh) (vx_cwVW n X.2.2.2.2.2 (lw_VW z3 w1 z2 v4 (v7 hh)) rfl rfl rfl ⟨rfl, v5.1, v5.2, z1⟩ ⟨by show d + 1 + 1 ≤ _; omega, by show 8 + (_ + 11) + (200 * d + 100) ≤ _; omega⟩) hV rfl hn (by rw [← hl0]; exact hL.1) hst (by show 2 * 0 + _ ≤ _; omega) hd ⟨by omega, by omega⟩
    · have hcode := v6 hh
      have hG : GoodIn lw_all (va_wsU (jm_onm (jm_own mi)) x C owner xx (jm_mnm m2) (jm_wsl m2)) := by
        refine lw_app ?_ (lw_meth hcode)
        intro w hw
        simp only [List.mem_cons, List.not_mem_nil, or_false] at hw
        rcases hw with e | e | e | e | e
        · rw [e]; exact z1
        · rw [e]; exact z2
        · rw [e]; exact z3
        · rw [e]; exact w1
        · rw [e]; exact v4
      have hroom : (jm_rm d (r.2.2.2 - h.2.2)).frames + 1 ≤ R.frames ∧ 8 + (jm_mxl m2 + 11) + (jm_rm d (r.2.2.2 - h.2.2)).locals ≤ R.locals := ⟨by show d + 1 + 1 ≤ _; omega, by show 8 + (_ + 11) + (200 * d + 100) ≤ _; omega⟩
      have cu : va_CU R s args (jm_onm (jm_own mi)) C owner x xx (jm_mnm m2) (jm_code m2) (jm_mxl m2) (jm_ret m2) (jm_wsl m2) (jm_rm d (r.2.2.2 - h.2.2)) (r.2.2.2 - h.2.2) (r.2.2.2 - h.2.2) n := by
        rcases z6 with z6 | ⟨y1, b0, m0, r0, y2⟩ | z6
        · exact va_cwU n X.2.2.2.2.2 hG rfl rfl rfl z6 ⟨z5.1, z5.2, z4⟩ hroom
        · have hG2 : GoodIn lw_all (va_wsO (jm_onm (jm_own mi)) x C owner xx (jm_mnm m2) (jm_wsl m2)) := by
            refine lw_app ?_ (lw_meth hcode)
            intro w hw
            simp only [List.mem_cons, List.not_mem_nil, or_false] at hw
            rcases hw with e | e | e | e | e | e
            · rw [e]; exact z1
            · rw [e]; exact z2
            · rw [e]; exact y1
            · rw [e]; exact z3
            · rw [e]; exact w1
            · rw [e]; exact v4
          exact va_cwO n X.2.2.2.2.2 hG2 rfl rfl rfl y2 ⟨z5.1, z5.2, z4⟩ hroom
        · exact va_cwA n X.2.2.2.2.2 hG rfl rfl rfl (K.2.1 _ z6 rfl) ⟨z5.1, z5.2, z4⟩ hroom
      exact vx_runU (jm_fixA X) (hM.1 hh) cu hV rfl hn (by rw [← hl0]; exact hL.1) hst (by show 2 * 0 + _ ≤ _; omega) hd ⟨by omega, by omega⟩
  exact jm_run_W run hS hL (fun v hv H1 locs1 r1 r2 => by rw [e9]; exact k.1 v hv H1 locs1 ls r1 r2 hL hl0 (by omega)) (fun q hq => by rw [e9]; exact k.2 q hq)
theorem jm_call6 (X : jm_cx p s m args meth c mi) (K : jm_K D dA G s) (Z : jm_Z G base s s.heap) (hif : ∀ q ∈ jm_ifs, jm_nmh q.2.1.cls) (Vm : jm_Vm m2) (hM : jm_MetP l D dA base G m2 d as h r) (hRf : d + 2 ≤ R.frames) (hRl : 200 * d + 300 ≤ R.locals) (hlen : rest.length ≤ 4) (hcost : h.2.2 ≤ r.2.2.2) (hrm : r.2.2.2 - c0 ≤ R.cells ∧ r.2.2.2 - c0 ≤ R.slots) {a ct : Nat} {as' : List Value} (has : as = .ref a :: as') {o : Nat × (Nat → Value)} (ho : jm_look G h a = some (.inl o)) (Vi : jm_Vi6 (jm_own mi) x n o.1 m2) (hn : as'.length = n) (hst : st = as'.reverse ++ .ref a :: rest) (hd : decode (jm_code mi) pc = .ok (.invokeinterface x ct, 5)) (k : jm_go p l e R s m args below meth c Q D dA base G c0 mi pc (pc + 5) L rest r) : jm_Wf p l e R s m args below meth c Q D dA base G c0 mi pc L st h := by
  intro H locs ls hR hS hL hl0 hc0
  subst has
  obtain ⟨C, T, N, xx, hcl, hh, z1, z2, w1, z3, z4, z5⟩ := Vi
  obtain ⟨v1, v2, v3, v4, v5, v6, -⟩ := Vm
  have hcode := v6 hh
  have hcat := jm_cats rest
  have e9 : h.2.2 - c0 + (r.2.2.2 - h.2.2) = r.2.2.2 - c0 := by omega
  have hV := jm_preV (as := as') K Z hif hR hS ho hcl
  have hG : GoodIn lw_all (va_wsF (jm_onm (jm_own mi)) x C xx (jm_mnm m2) (jm_wsl m2)) := by
    refine lw_app ?_ (lw_meth hcode)
    intro w hw
    simp only [List.mem_cons, List.not_mem_nil, or_false] at hw
    rcases hw with e | e | e | e
    · rw [e]; exact z1
    · rw [e]; exact z2
    · rw [e]; exact w1
    · rw [e]; exact v4
  have run : vx_Run5 p l e R s m args below meth c H locs (h.2.2 - c0) (h.2.2 - c0) (r.2.2.2 - h.2.2) (r.2.2.2 - h.2.2) (F0 m pc ls st) rest (jm_Qc D dA base G r (Value.ref a :: as').toArray) (jm_XC D dA base G r) (jm_Aw base) := vx_runF (K.1.1 _ _ hcl).2 (jm_fixA X) (hM.1 hh) (va_cwF n X.2.2.2.2.2 hG rfl rfl rfl (K.2.2.1 _ z3) ⟨z5.1, z5.2, z4⟩ ⟨by show d + 1 + 1 ≤ _; omega, by show 8 + (_ + 11) + (200 * d + 100) ≤ _; omega⟩) hV rfl hn (by rw [← hl0]; exact hL.1) hst (by show 2 * 0 + _ ≤ _; omega) hd ⟨by omega, by omega⟩
  exact jm_run5_W run hS hL (fun v hv H1 locs1 r1 r2 => by rw [e9]; exact k.1 v hv H1 locs1 ls r1 r2 hL hl0 (by omega)) (fun q hq => by rw [e9]; exact k.2 q hq)
end JMCL
