/-! CASTS, ARRAYS OF ARRAYS, THE TWO NATIVE METHODS -/
/-- a kind of cells whose things a cast to nm lets pass -/
def jm_kx (kd : Nat) (nm : String) : Prop := (∃ (ci : Nat) (C : String) (T : u_T) (N : Nat), kd = 2 * ci ∧ jcl[ci]? = some (C, T, N) ∧ (C = nm ∨ (Jvm.Cond.castable C nm) ∈ lw_tbl)) ∨ ∃ (t : Nat) (ty : FieldType), kd = 2 * t + 1 ∧ jm_aty[t]? = some ty ∧ nm = "[" ++ ty.toString
def jm_ky (kd : Nat) (nm : String) (b : Bool) : Prop := ∃ (ci : Nat) (C : String) (T : u_T) (N : Nat), kd = 2 * ci ∧ jcl[ci]? = some (C, T, N) ∧ (b = true ∧ (C = nm ∨ (Jvm.Cond.castable C nm) ∈ lw_tbl) ∨ b = false ∧ (C, nm) ∈ jm_ncs)
theorem jm_cell_vm (cA : ClassId) (x : vp_A) : (vp_cell cA x).vm = .none := by
  obtain ⟨n, f⟩ := x
  rcases f with f | f | f | f | f <;> rfl
theorem jm_cell_cls (cA : ClassId) (x : vp_A) : (vp_cell cA x).cls = cA := by
  obtain ⟨n, f⟩ := x
  rcases f with f | f | f | f | f <;> rfl
/-- an object's cell, its class by name -/
theorem jm_recv {s : State} {H : Heap} {D : va_G} {dA : Nat → ClassId} {G : jm_G} {o : Nat × (Nat → Value)} {a : Nat} {C : String} {T : u_T} {N : Nat} (K : jm_K D dA G s) (hc : jm_ce D dA (.inl o) a H) (hcl : jcl[o.1]? = some (C, T, N)) : ∃ cell : Cell, H[a]? = some cell ∧ cell.vm.isStatics = false ∧ s.vm.findClass C = some cell.cls := by
  obtain ⟨-, cell, q1, q2, q3, -⟩ := hc
  exact ⟨cell, q1, by rw [q3]; rfl, by rw [q2]; exact (K.1.1 _ _ hcl).2.1⟩
section JMCS
variable {p : Program} {l : Launch} {e : Env} {R : Room} {s : State} {m : MethodId} {args : Array Value} {below : List Frame} {meth : Method} {c : Code} {Q : State → Prop} {D : va_G} {dA : Nat → ClassId} {base : Nat} {G : jm_G} {c0 mi pc pc' len fa : Nat} {T : jm_T} {L L' : jm_L} {st st' : List Value} {h h' : jm_H}
theorem jm_w_checkcast {x : Nat} (X : jm_cx p s m args meth c mi) (K : jm_K D dA G s) (Vk : ∀ x kd, kd ∈ jm_Tk T x → ∃ nm, (Jvm.Cond.classLink (jm_onm (jm_own mi)) x nm) ∈ lw_all ∧ jm_kx kd nm) (hd : decode (jm_code mi) pc = .ok (.checkcast x, len)) (hl : jm_lok (.checkcast x) len = true) (he : jm_ex T G fa pc len (.checkcast x) L st h = some (.inl (pc', L', st', h'))) (k : jm_Wf p l e R s m args below meth c Q D dA base G c0 mi pc' L' st' h') : jm_Wf p l e R s m args below meth c Q D dA base G c0 mi pc L st h := by
  have hn := eq_of_beq hl
  subst hn
  intro H locs ls hR hS hL hl0 hc0
  dsimp only [jm_ex] at he
  split at he
  · rename_i v r
    obtain ⟨hok, rfl, rfl, rfl, rfl⟩ := jm_fnx_inl he
    have k1 := k H locs ls hR hS hL hl0 hc0
    cases v with
    | null => exact lv_castN X.1 X.2.1 hd k1
    | ref a =>
      simp only [jm_cast] at hok
      split at hok
      · rename_i cc hcc
        obtain ⟨nm, hw, hkx⟩ := Vk x _ (List.contains_iff_mem.mp hok)
        have hce := hR.look hcc
        rcases hkx with ⟨ci, C, T', N, hkd, hcl, hcast⟩ | ⟨t, ty, hkd, hty, rfl⟩
        · cases cc with
          | inr x => simp [jm_kd] at hkd; omega
          | inl o =>
            have : o.1 = ci := by simp [jm_kd] at hkd; omega
            subst this
            have hr := jm_recv K hce hcl
            rcases hcast with rfl | hw2
            · exact va_castS X.1 X.2.1 X.2.2.2.2.1 (X.2.2.2.2.2 _ hw) (K.1.1 _ _ hcl).2 hr hd k1
            · exact va_castY X.1 X.2.1 X.2.2.2.2.1 (X.2.2.2.2.2 _ hw) (K.2.1 _ hw2 rfl) hr hd k1
        · cases cc with
          | inl o => simp [jm_kd] at hkd; omega
          | inr x =>
            have : x.1 = t := by simp [jm_kd] at hkd; omega
            subst this
            obtain ⟨-, q1⟩ := hce
            exact va_castA X.1 X.2.1 X.2.2.2.2.1 (X.2.2.2.2.2 _ hw) (jm_P1 (D := D) q1) 0 rfl (jm_RA ((K.1.2 x.1 _ (jm_tys_at hty)).2)) hd k1
      · cases hok
    | _ => simp [jm_cast] at hok
  · cases he
theorem jm_w_instanceof {x : Nat} (X : jm_cx p s m args meth c mi) (K : jm_K D dA G s) (Vo : ∀ x kd b, (jm_To T x).lookup kd = some b → ∃ nm, (Jvm.Cond.classLink (jm_onm (jm_own mi)) x nm) ∈ lw_all ∧ jm_ky kd nm b) (hd : decode (jm_code mi) pc = .ok (.instanceof x, len)) (hl : jm_lok (.instanceof x) len = true) (he : jm_ex T G fa pc len (.instanceof x) L st h = some (.inl (pc', L', st', h'))) (k : jm_Wf p l e R s m args below meth c Q D dA base G c0 mi pc' L' st' h') : jm_Wf p l e R s m args below meth c Q D dA base G c0 mi pc L st h := by
  have hn := eq_of_beq hl
  subst hn
  intro H locs ls hR hS hL hl0 hc0
  dsimp only [jm_ex] at he
  split at he
  · rename_i v r
    obtain ⟨z, hz, rfl, rfl, rfl, rfl⟩ := jm_push_inl he
    rw [Option.map_eq_some_iff] at hz
    obtain ⟨y, hy, rfl⟩ := hz
    have k1 := k H locs ls hR hS hL hl0 hc0
    cases v with
    | null => cases hy; exact lv_instN X.1 X.2.1 hd k1
    | ref a =>
      simp only [jm_inst] at hy
      split at hy
      · rename_i cc hcc
        have hce := hR.look hcc
        have fin : ∀ b, (jm_To T x).lookup (jm_kd cc) = some b → y = (if b = true then 1 else 0) → W p l e R s m args below meth c H locs (h'.2.2 - c0) (h'.2.2 - c0) Q (F0 m pc ls (.ref a :: r)) := by
          intro b hb hyb
          obtain ⟨nm, hw, ci, C, T', N, hkd, hcl, hcast⟩ := Vo x _ _ hb
          cases cc with
          | inr x => simp [jm_kd] at hkd; omega
          | inl o =>
            have : o.1 = ci := by simp [jm_kd] at hkd; omega
            subst this
            have hr := jm_recv K hce hcl
            rcases hcast with ⟨rfl, hcast⟩ | ⟨rfl, hnc⟩
            · rw [if_pos rfl] at hyb
              subst hyb
              rcases hcast with rfl | hw2
              · exact va_instS X.1 X.2.1 X.2.2.2.2.1 (X.2.2.2.2.2 _ hw) (K.1.1 _ _ hcl).2 hr hd k1
              · exact va_instY X.1 X.2.1 X.2.2.2.2.1 (X.2.2.2.2.2 _ hw) (K.2.1 _ hw2 rfl) hr hd k1
            · rw [if_neg (by decide)] at hyb
              subst hyb
              exact va_instNo X.1 X.2.1 X.2.2.2.2.1 (X.2.2.2.2.2 _ hw) (K.2.2.2.2.2.1 _ hnc) hr hd k1
        split at hy
        · rename_i hb; cases hy; exact fin true hb rfl
        · rename_i hb; cases hy; exact fin false hb rfl
        · cases hy
      · cases hy
    | _ => simp [jm_inst] at hy
  · cases he
theorem jm_outer {cA : ClassId} {N h0 : Nat} {H' : Heap} (hH : H'[h0]? = some (Jvm.Free.Multi.outerC cA N h0 N)) : H'[h0]? = some (vp_cell cA (N, .inr (.inr (.inr (.inr (fun j => if j < N then some (h0 + 1 + j) else none)))))) := by
  rw [hH, vp_cell_q]
  congr 1
  obtain ⟨e1, e2, e3⟩ := Jvm.Free.Multi.outerC_facts cA N h0 N
  have hm : ∀ i, (Jvm.Free.Multi.outerC cA N h0 i).monitor = {} ∧ (Jvm.Free.Multi.outerC cA N h0 i).hash = none := by
    intro i
    induction i with
    | zero => exact ⟨rfl, rfl⟩
    | succ i ih => exact ih
  have hs : (Jvm.Free.Multi.outerC cA N h0 N).slots = (arrV cA N (fun j => va_rf (if j < N then some (h0 + 1 + j) else none))).slots := by
    apply Array.ext_getElem?
    intro j
    by_cases hj : j < N
    · rw [Jvm.Free.Multi.outerC_slot cA N h0 N j hj, arrV_read _ _ hj, if_pos hj, if_pos hj]
      rfl
    · rw [Array.getElem?_eq_none (by rw [e3]; omega), Array.getElem?_eq_none (by rw [arrV_size]; omega)]
  obtain ⟨h1, h2⟩ := hm N
  cases hc : Jvm.Free.Multi.outerC cA N h0 N with
  | mk cls slots monitor hash vm =>
    rw [hc] at e1 e2 hs h1 h2
    dsimp only at e1 e2 hs h1 h2
    subst e1; subst e2; subst hs; subst h1; subst h2
    rfl
theorem jm_w_multianewarray {x d : Nat} (X : jm_cx p s m args meth c mi) (K : jm_K D dA G s) (Vm : ∀ x q, jm_Tm T x = some q → q = (9, 0) ∧ (Jvm.Cond.classLink (jm_onm (jm_own mi)) x "[[I") ∈ lw_all) (Vy : (Jvm.Cond.arrayClass .int) ∈ lw_all) (hd : decode (jm_code mi) pc = .ok (.multianewarray x d, len)) (hl : jm_lok (.multianewarray x d) len = true) (he : jm_ex T G fa pc len (.multianewarray x d) L st h = some (.inl (pc', L', st', h'))) (hrm : h'.2.2 - c0 ≤ R.cells ∧ h'.2.2 - c0 ≤ R.slots) (k : jm_Wf p l e R s m args below meth c Q D dA base G c0 mi pc' L' st' h') : jm_Wf p l e R s m args below meth c Q D dA base G c0 mi pc L st h := by
  have hn := eq_of_beq hl
  subst hn
  intro H locs ls hR hS hL hl0 hc0
  dsimp only [jm_ex] at he
  split at he
  · rename_i kk n r
    split at he
    · cases he
    · rename_i hng
      split at he
      · rename_i to ti hq
        cases he
        obtain ⟨hq2, hw⟩ := Vm x _ hq
        cases hq2
        have hd2 : d = 2 := by
          by_cases z : d = 2
          · exact z
          · exact absurd (Or.inr (Or.inr (Or.inr (Or.inr z)))) hng
        subst hd2
        have hn0 : ¬ n < 0 := fun z => hng (Or.inl z)
        have hk0 : ¬ kk < 0 := fun z => hng (Or.inr (Or.inl z))
        have hn1 : n.toInt.toNat ≤ 65536 := by
          have : ¬ 65536 < n.toInt := fun z => hng (Or.inr (Or.inr (Or.inl z)))
          omega
        have hk1 : kk.toInt.toNat ≤ 65536 := by
          have : ¬ 65536 < kk.toInt := fun z => hng (Or.inr (Or.inr (Or.inr (Or.inl z))))
          omega
        generalize hN : n.toInt.toNat = N at *
        generalize hM : kk.toInt.toNat = M at *
        have hN' : n.toNatClampNeg = N := hN
        have hM' : kk.toNatClampNeg = M := hM
        have hb2 : (jm_multi h 9 0 N M).2.2 = h.2.2 + 1 + N + N + N * M := rfl
        rw [hb2] at hrm
        intro T9 hT X9
        obtain ⟨vm₁, cA, comp, hW, hfA, hfC, hO, hI, X1, step⟩ := X9.multianewarray2F (ty := .int) X.1 X.2.2.2.2.1 (X.2.2.2.2.2 _ hw) K.2.2.2.2.1 (X.2.2.2.2.2 _ Vy) (g := F0 m pc ls (.int kk :: .int n :: r)) rfl (by rw [X.2.1]; exact hd) rfl hn0 hk0 (by rw [hN']; omega) (by rw [hM']; exact Nat.le_trans (Nat.mul_le_mul_right _ hk1) (by decide)) (by rw [hM']; omega) rfl rfl (by rw [hN']; omega) (by rw [hN', hM']; omega)
        rw [hN', hM'] at X1 step
        generalize hF : Jvm.Free.Multi.fill (T9.setVm vm₁) cA comp N M (defaultValue .int) N = TF at *
        obtain ⟨f1, f2, f3, f4⟩ := Jvm.Free.Multi.fill_facts (T9.setVm vm₁) cA comp N M (defaultValue .int) N
        have fo := fun (a : Addr) (ha : a < (T9.setVm vm₁).heap.size) => Jvm.Free.Multi.fill_old (T9.setVm vm₁) cA comp N M (defaultValue .int) ha N
        have fi := fun j hj => Jvm.Free.Multi.fill_inner (T9.setVm vm₁) cA comp N M (defaultValue .int) N j hj
        rw [hF] at f1 f2
        have hTh : (T9.setVm vm₁).heap = H := hT
        rw [hTh] at f1 f2 fo fi
        have fo : ∀ a : Nat, a < H.size → TF.heap[a]? = H[a]? := fun a ha => by rw [← hF]; exact fo a ha
        have fi : ∀ j : Nat, j < N → TF.heap[H.size + 1 + j]? = some (Jvm.Free.Multi.innerC comp M (defaultValue .int)) := fun j hj => by rw [← hF]; exact fi j hj
        have hcA : dA 9 = cA := by
          have h9 := jm_RA ((K.1.2 9 _ (jm_tys_at rfl)).2)
          exact Option.some.inj (h9.symm.trans hfA)
        have hcC : dA 0 = comp := by
          have h9 := jm_RA ((K.1.2 0 _ (jm_tys_at rfl)).2)
          exact Option.some.inj (h9.symm.trans hfC)
        obtain ⟨r1, r2, r3, r4⟩ := hR
        have hR1 : jm_rep D dA base G (jm_multi h 9 0 N M) TF.heap := by
          refine ⟨by show h.2.1 + 1 + N = _; omega, by omega, fun b d hb => ?_, fun b d hb => ?_⟩
          · simp only [jm_multi] at hb
            by_cases q : b = h.2.1
            · subst q
              rw [if_pos rfl] at hb
              cases hb
              refine ⟨by omega, (by decide : 9 < jm_aty.length), ?_⟩
              rw [r1]
              show TF.heap[H.size]? = some (vp_cell (dA 9) _)
              rw [hcA]
              exact jm_outer f2
            · rw [if_neg q] at hb
              unfold jm_rows at hb
              by_cases q2 : h.2.1 + 1 ≤ b ∧ b < h.2.1 + 1 + N
              · rw [if_pos q2] at hb
                cases hb
                refine ⟨by omega, (by decide : 0 < jm_aty.length), ?_⟩
                have hj := fi (b - (H.size + 1)) (by omega)
                rw [show H.size + 1 + (b - (H.size + 1)) = b by omega] at hj
                show TF.heap[b]? = some (vp_cell (dA 0) _)
                rw [hj, hcC]
                congr 1
                exact arrV_new comp M (.int 0)
              · rw [if_neg q2] at hb
                exact ⟨(r3 b d hb).1, (r3 b d hb).2.kept (fo b (r3 b d hb).2.lt)⟩
          · have h1 := r4 b d hb
            exact ⟨h1.1, h1.2.kept (fo b h1.2.lt)⟩
        have hS1 : va_S (jm_Aw base) s.heap TF.heap locs := ⟨Nat.le_trans hS.1 (by omega), fun x h1 h2 => (fo x (Nat.lt_of_lt_of_le h1 hS.1)).trans (hS.2.1 x h1 h2), hS.2.2⟩
        have hk := k TF.heap locs ls hR1 hS1 hL hl0 (by rw [hb2]; omega)
        rw [hb2] at hk
        have hk2 := W.widen (cells := h.2.2 - c0 + 1 + N) (slots := h.2.2 - c0 + N + N * M) (by omega) (by omega) hk
        rw [r1] at hk2
        obtain ⟨t, a1, b1⟩ := hk2 TF rfl X1
        refine ⟨t, step t ?_, b1⟩
        rw [hT]
        exact a1
      · cases he
  · cases he
end JMCS
