/-! THE INSTRUCTIONS THAT TOUCH CELLS -/
def jm_isn (w : Jvm.Cond) : Bool := match w with
  | .fieldLinkNest _ _ _ _ _ _ => true
  | .methodLinkNest _ _ _ _ => true
  | .castable _ _ => true
  | .declares _ => true
  | _ => false
/-- what is known of classes, links, constants in a state -/
def jm_K (D : va_G) (dA : Nat → ClassId) (G : jm_G) (U : State) : Prop :=
  va_K D jcl (jm_tys dA) U ∧ (∀ w ∈ lw_tbl, jm_isn w = true → va_Nw w U) ∧ (∀ q ∈ jm_ifs, va_Fw q.1 q.2.1 q.2.2 U) ∧ (∀ C ∈ jm_aos, va_AO C U) ∧ (Jvm.Cond.arrayOver (.array .int)).before #[] U = true ∧ (∀ q ∈ jm_ncs, va_Nc q.1 q.2 U) ∧ (∀ z ∈ jm_sks, ∃ a, G.2 z.1 = .ref a ∧ vk_R z.2.1 z.2.2.1 z.2.2.2 a U) ∧ (∀ z ∈ jm_mis, ∃ mi, G.2 z.1 = .ref mi ∧ va_Mi z.2 mi U) ∧ va_Dc U
def jm_Z (G : jm_G) (base : Nat) (U : State) (H : Heap) : Prop := ∀ z ∈ jm_sts, va_Z z.2.1 z.2.2.1 z.2.2.2 (G.2 z.1) (jm_Aw base) U H
/-- a class of cells as the tables have it -/
def jm_Vc (ci : Nat) : Prop := ∃ (C : String) (T : u_T) (N : Nat), jcl[ci]? = some (C, T, N) ∧ N = jm_nf ci ∧ (∀ w ∈ u_ws C T N, w ∈ lw_all) ∧ (∀ k, k < N → parseFieldDescriptor (T k).2.2.1 = some (jm_tyf ci k)) ∧ (∀ a, a < N → ∀ b, b < N → a ≠ b → (T a).2.1 ≠ (T b).2.1) ∧ (ci ≠ 38 → (Jvm.Cond.instantiable C N) ∈ lw_all) ∧ (Jvm.Cond.initialized C) ∈ lw_all ∧ (∀ k, k < N → (jm_fnl ci)[k]? = some 0 → (T k).2.2.2 = false) ∧ (∀ k d, k < N → d < 100 → (jm_fnl ci)[k]? = some (d + 1) → (T k).2.2.2 = true ∧ (T k).1 = jm_onm d)
/-- a field of the pool of owner o -/
def jm_Vf (o x ci k : Nat) : Prop := ∃ (C : String) (T : u_T) (N : Nat) (ref : String), jcl[ci]? = some (C, T, N) ∧ k < N ∧ ((Jvm.Cond.fieldLink (jm_onm o) x ref (T k).2.1 (T k).2.2.1) ∈ lw_all ∨ ∃ host, (Jvm.Cond.fieldLinkNest (jm_onm o) x ref (T k).2.1 (T k).2.2.1 host) ∈ lw_tbl) ∧ (ref = (T k).1 ∨ (Jvm.Cond.sameField ref (T k).1 (T k).2.1 (T k).2.2.1) ∈ lw_all)
theorem jm_vpin {i : Int32} {n : Nat} (h : jm_inb i n = true) : vp_in i n := by
  unfold jm_inb at h
  rw [Bool.and_eq_true] at h
  exact vp_in_iff.mpr ⟨of_decide_eq_true h.1, of_decide_eq_true h.2⟩
theorem jm_fit_nar {ty : FieldType} {v : Value} (h : jm_fit ty v = true) : narrow ty v = v ∧ fits ty v = true := by
  cases ty with
  | int => cases v <;> first | exact ⟨rfl, rfl⟩ | (simp [jm_fit] at h)
  | long => cases v <;> first | exact ⟨rfl, rfl⟩ | (simp [jm_fit] at h)
  | object C => cases v <;> first | exact ⟨rfl, rfl⟩ | (simp [jm_fit] at h)
  | array t => cases v <;> first | exact ⟨rfl, rfl⟩ | (simp [jm_fit] at h)
  | boolean =>
    cases v with
    | int x =>
      simp [jm_fit] at h
      rcases h with h | h <;> subst h <;> exact ⟨rfl, rfl⟩
    | _ => simp [jm_fit] at h
  | byte =>
    cases v with
    | int x =>
      simp only [jm_fit, Bool.and_eq_true, beq_iff_eq] at h
      have e : narrow .byte (.int x) = .int (vp_nar .byte x) := rfl
      exact ⟨by rw [e, h.1], h.2⟩
    | _ => simp [jm_fit] at h
  | char =>
    cases v with
    | int x =>
      simp only [jm_fit, Bool.and_eq_true, beq_iff_eq] at h
      have e : narrow .char (.int x) = .int (vp_nar .char x) := rfl
      exact ⟨by rw [e, h.1], h.2⟩
    | _ => simp [jm_fit] at h
  | float =>
    cases v with
    | float b =>
      simp only [jm_fit, decide_eq_true_eq] at h
      refine ⟨?_, ?_⟩
      · first | rfl | (simp [narrow]; done) | (simp [narrow, FP.canonical32, h]; done)
      · first | rfl | (simp [fits]; done)
    | _ => simp [jm_fit] at h
  | _ => cases v <;> simp [jm_fit] at h
section JMM
variable {p : Program} {l : Launch} {e : Env} {R : Room} {s : State} {m : MethodId} {args : Array Value} {below : List Frame} {meth : Method} {c : Code} {Q : State → Prop} {D : va_G} {dA : Nat → ClassId} {base : Nat} {G : jm_G} {c0 mi pc pc' len fa : Nat} {T : jm_T} {L L' : jm_L} {st st' : List Value} {h h' : jm_H}
theorem jm_w_getfield {x : Nat} (X : jm_cx p s m args meth c mi) (K : jm_K D dA G s) (Vc : ∀ ci, ci < jcl.length → jm_Vc ci) (Vf : ∀ x ci k, (jm_Tf T x).lookup ci = some k → jm_Vf (jm_own mi) x ci k) (hd : decode (jm_code mi) pc = .ok (.getfield x, len)) (hl : jm_lok (.getfield x) len = true) (he : jm_ex T G fa pc len (.getfield x) L st h = some (.inl (pc', L', st', h'))) (k : jm_Wf p l e R s m args below meth c Q D dA base G c0 mi pc' L' st' h') : jm_Wf p l e R s m args below meth c Q D dA base G c0 mi pc L st h := by
  have hn := eq_of_beq hl
  subst hn
  intro H locs ls hR hS hL hl0 hc0
  dsimp only [jm_ex] at he
  split at he
  · obtain ⟨v, hv, rfl, rfl, rfl, rfl⟩ := jm_push_inl he
    rename_i a r
    unfold jm_gf at hv
    split at hv
    · rename_i o ho
      split at hv
      · rename_i kk hkk
        cases hv
        obtain ⟨⟨r0, hr1, hr2⟩, cell, q1, q2, q3, q4⟩ := hR.look ho
        obtain ⟨C, T', N, ref, hc, hkN, hlink, hsame⟩ := Vf x _ _ hkk
        obtain ⟨C9, T9, N9, hc9, hN9, hin9, -⟩ := Vc o.1 (List.getElem?_eq_some_iff.mp hr1).1
        cases hc9.symm.trans hc
        obtain ⟨hS9, hfc, kC, hkC, hkind⟩ := K.1.1 _ _ hc
        obtain ⟨cf, kf, fi, f, hi, hsl⟩ := hS9 kk hkN
        have hsm : s.fieldFound? ref (T' kk).2.1 (T' kk).2.2.1 = some (cf, kf, fi, f) := by
          rcases hsame with rfl | hw
          · exact hi
          · exact u_same (X.2.2.2.2.2 _ hw) _ hi
        have hst := (u_facts hfc hkC (u_lays X.2.2.2.2.2 hin9 hkN) hi).1
        have hval : cell.slots[f.slot]? = some (o.2 kk) := by
          have := q4 kk (by rw [← hN9]; exact hkN)
          rw [hsl]
          exact this
        rcases hlink with hw | ⟨host, hw⟩
        · exact W.getf X.1 X.2.1 X.2.2.2.2.1 (X.2.2.2.2.2 _ hw) hsm hst q1 (by rw [q3]; exact fun z => by cases z) hval rfl rfl hd (k H locs ls hR hS hL hl0 hc0)
        · exact va_Wgetf X.1 X.2.1 X.2.2.2.2.1 (va_Nw.use rfl (K.2.1 _ hw rfl)) hsm hst q1 (by rw [q3]; exact fun z => by cases z) hval rfl rfl hd (k H locs ls hR hS hL hl0 hc0)
      · cases hv
    · cases hv
  · cases he
theorem jm_w_putfield {x : Nat} (X : jm_cx p s m args meth c mi) (K : jm_K D dA G s) (Vc : ∀ ci, ci < jcl.length → jm_Vc ci) (Vf : ∀ x ci k, (jm_Tf T x).lookup ci = some k → jm_Vf (jm_own mi) x ci k) (Vp : ∀ ci k v, jm_Tp T ci k v = true → jm_fit (jm_tyf ci k) v = true ∧ k < jm_nf ci ∧ ((jm_fnl ci)[k]? = some 0 ∨ (jm_fnl ci)[k]? = some (jm_own mi + 1) ∧ meth.name = "<init>" ∧ jm_own mi < 100)) (hd : decode (jm_code mi) pc = .ok (.putfield x, len)) (hl : jm_lok (.putfield x) len = true) (he : jm_ex T G fa pc len (.putfield x) L st h = some (.inl (pc', L', st', h'))) (k : jm_Wf p l e R s m args below meth c Q D dA base G c0 mi pc' L' st' h') : jm_Wf p l e R s m args below meth c Q D dA base G c0 mi pc L st h := by
  have hn := eq_of_beq hl
  subst hn
  intro H locs ls hR hS hL hl0 hc0
  dsimp only [jm_ex] at he
  split at he
  · rename_i v a r
    split at he
    · rename_i h1 hp1
      cases he
      unfold jm_pf at hp1
      split at hp1
      · rename_i o ho
        split at hp1
        · rename_i kk hkk
          split at hp1
          · rename_i hok
            cases hp1
            obtain ⟨⟨r0, hr1, hr2⟩, cell, q1, q2, q3, q4⟩ := (hR.2.2.1 _ _ ho).2
            obtain ⟨C, T', N, ref, hc, hkN, hlink, hsame⟩ := Vf x _ _ hkk
            obtain ⟨C9, T9, N9, hc9, hN9, hin9, hty9, hnm9, -, -, hf0, hf1⟩ := Vc o.1 (List.getElem?_eq_some_iff.mp hr1).1
            cases hc9.symm.trans hc
            obtain ⟨hfit, hkn, hfin⟩ := Vp _ _ _ hok
            obtain ⟨hnar, hfits⟩ := jm_fit_nar hfit
            have hap := va_apart (own := C) X.2.2.2.2.2 hin9 _ hty9 hnm9 K.1 hc
            obtain ⟨hS9, hfc, kC, hkC, hkind⟩ := K.1.1 _ _ hc
            obtain ⟨cf, kf, fi, f, hi, hsl⟩ := hS9 kk hkN
            have hsm : s.fieldFound? ref (T' kk).2.1 (T' kk).2.2.1 = some (cf, kf, fi, f) := by
              rcases hsame with rfl | hw
              · exact hi
              · exact u_same (X.2.2.2.2.2 _ hw) _ hi
            have hst := (u_facts hfc hkC (u_lays X.2.2.2.2.2 hin9 hkN) hi).1
            have hd9 := hty9 kk hkN
            have hslot : f.slot < cell.slots.size := by
              have := q4 kk (by rw [← hN9]; exact hkN)
              rw [hsl]
              exact k2_hasslot this
            have hlay := X.2.2.2.2.2 _ (hin9 _ (u_in_lay hkN))
            have fin : ∀ H' : Heap, H'[a]? = some (cell.setSlot f.slot v) → H'.size = H.size → (∀ q, q ≠ a → H'[q]? = H[q]?) → W p l e R s m args below meth c H' (locs ++ [⟨a, f.slot⟩]) (h.2.2 - c0) (h.2.2 - c0) Q (F0 m (pc + 3) ls st') := by
              intro H' e1 e2 e3
              rw [hsl] at e1
              refine k H' _ ls (hR.upd ho e2 e3 ⟨⟨r0, hr1, hr2⟩, cell.setSlot (D.2 o.1 kk) v, e1, q2, q3, ?_⟩) (hS.put e2 e3 (hR.2.2.1 _ _ ho).1) hL hl0 hc0
              intro j hj
              have := t_set (V := o.2) (N := N) (iS := D.2 o.1) (fun j hj => q4 j (by rw [← hN9]; exact hj)) hap hkN v j (by rw [hN9]; exact hj)
              rw [this]
              rfl
            rcases hfin with hz | ⟨hz, hini, ho100⟩
            · have hfa := hf0 kk hkN hz
              unfold u_lay at hlay
              rw [if_neg (by rw [hfa]; decide)] at hlay
              have h6 := u_store hfc hkC hkind hlay hi hd9 hnar hfits
              rcases hlink with hw | ⟨host, hw⟩
              · exact W.putK X.1 X.2.1 (f := f) ⟨X.2.2.2.2.1, X.2.2.2.2.2 _ hw, ⟨_, _, _, hsm⟩, hst⟩ (by rw [q2]; exact h6) q1 q3 hslot rfl rfl hd fin
              · exact va_WputK X.1 X.2.1 (f := f) X.2.2.2.2.1 (va_Nw.use rfl (K.2.1 _ hw rfl)) hsm hst (by rw [q2]; exact h6) q1 q3 hslot rfl rfl hd fin
            · obtain ⟨hfa, hdecl⟩ := hf1 kk _ hkN ho100 hz
              unfold u_lay at hlay
              rw [if_pos hfa] at hlay
              have hcf : m.cls = cf := by
                obtain ⟨_, _, c', _, _, _, -, -, hf', -, -, -, hown2, -⟩ := Cond.laysFinal_spec hlay
                have e1 : c' = cf := by have := hi.symm.trans hf'; simp at this; exact this.1.symm
                rw [hdecl] at hown2
                rw [← e1]
                exact Option.some.inj (X.2.2.2.2.1.symm.trans hown2)
              have h6 := u_fits hfc hkC hkind (Or.inr hlay) hi hd9 hnar hfits
              rcases hlink with hw | ⟨host, hw⟩
              · exact W.putFinK X.1 X.2.1 X.2.2.2.2.1 (X.2.2.2.2.2 _ hw) hsm hst hcf hini (by rw [q2]; exact h6) q1 q3 hslot rfl rfl hd fin
              · refine va_Wputf X.1 X.2.1 X.2.2.2.2.1 (va_Nw.use rfl (K.2.1 _ hw rfl)) hsm hst (Or.inr ⟨hcf, hini⟩) q1 (by rw [q3]; exact fun z => by cases z) hslot h6.1 (by rw [q3, q2]; exact h6.2) rfl rfl hd (fin _ ?_ ?_ ?_)
                · simp [Array.getElem?_setIfInBounds, (Array.getElem?_eq_some_iff.mp q1).1]
                · simp
                · intro q hq
                  simp [Array.getElem?_setIfInBounds, Ne.symm hq]
          · cases hp1
        · cases hp1
      · cases hp1
    · cases he
  · cases he
end JMM
