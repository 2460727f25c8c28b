/-! THE INDUCTION, and what it says of a method -/
theorem jm_run_thr {G : jm_G} : ∀ (f d mi pc : Nat) (L : jm_L) (st : List Value) (h h' : jm_H) (a : Nat), jm_run G f d mi pc L st h = some (.inr a, h') → ∃ V, h'.1 a = some (.inl (jm_fc, V)) := by
  intro f
  induction f with
  | zero => intro d mi pc L st h h' a e; simp [jm_run] at e
  | succ f ih =>
    intro d mi pc L st h h9 a9 e
    rw [jm_run] at e
    cases hs : jm_step G mi pc L st h with
    | none => rw [hs] at e; cases e
    | some a =>
      rw [hs] at e
      have hex : ∃ len i, jm_ex (jm_tab mi) G jm_fc pc len i L st h = some a := by
        unfold jm_step at hs
        split at hs
        · split at hs
          · exact ⟨_, _, (jm_chk_of hs).1⟩
          · cases hs
        · cases hs
      obtain ⟨len, i, hex⟩ := hex
      match a, e, hex with
      | .inl (pc', L', st', h'), e, hex => exact ih _ _ _ _ _ _ _ _ e
      | .inr (.inl ((m2, as), (pc', L', st', h'))), e, hex =>
        cases d with
        | zero => cases e
        | succ d' =>
          dsimp only at e
          cases hr : jm_run G f d' m2 0 (jm_args (jm_mxl m2) as) [] h' with
          | none => rw [hr] at e; cases e
          | some q =>
            rw [hr] at e
            match q, e, hr with
            | (.inl v, h2), e, hr => exact ih _ _ _ _ _ _ _ _ e
            | (.inr x, h2), e, hr =>
              dsimp only at e
              cases hh : jm_hnd mi pc with
              | none => rw [hh] at e; cases e; exact ih _ _ _ _ _ _ _ _ hr
              | some hp => rw [hh] at e; exact ih _ _ _ _ _ _ _ _ e
      | .inr (.inr (.inl (v, h'))), e, hex => cases e
      | .inr (.inr (.inr (x, h'))), e, hex =>
        rcases jm_ex_end hex with ⟨-, -, q⟩ | ⟨-, y, -, q⟩ | ⟨-, y, -, q⟩ | ⟨-, y, -, -, q⟩ | ⟨-, b, r, V, -, hV, q⟩
        · cases q
        · cases q
        · cases q
        · cases q
        · cases q
          dsimp only at e
          cases hh : jm_hnd mi pc with
          | none => rw [hh] at e; cases e; exact ⟨V, hV⟩
          | some hp => rw [hh] at e; exact ih _ _ _ _ _ _ _ _ e
theorem jm_args_len {n : Nat} {as : List Value} (h : (jm_sl as).length ≤ n) : (jm_args n as).length = n := by
  unfold jm_args
  rw [List.length_append, List.length_replicate]
  omega
section JMI
variable {l : Launch} {D : va_G} {dA : Nat → ClassId} {base : Nat} {G : jm_G}
theorem jm_all (V : jm_V) : ∀ f, jm_FR l D dA base G f := by
  intro f
  induction f with
  | zero => intro d mi pc L st h r e; simp [jm_run] at e
  | succ f ih =>
    intro d mi pc L st h r e hmi p e9 R s m args below meth c Q c0 C hRf hRl hrc hrs fin
    have hC := C
    obtain ⟨X, hname, hret, htab, K, Z⟩ := C
    rw [jm_run] at e
    cases hs : jm_step G mi pc L st h with
    | none => rw [hs] at e; cases e
    | some a =>
      rw [hs] at e
      have hs0 := hs
      unfold jm_step at hs
      split at hs
      · rename_i i len hd
        split at hs
        · rename_i hlk
          obtain ⟨hex, -, -, hc3⟩ := jm_chk_of hs
          match a, e, hex, hc3, hs0 with
          | .inl (pc', L', st', h'), e, hex, hc3, hs0 =>
            have hcost := jm_run_cost _ _ _ _ _ _ _ _ e
            exact jm_one V hmi X hname K Z ⟨by omega, by omega⟩ hd hlk hex ⟨by omega, by omega⟩ (ih d mi pc' L' st' h' r e hmi p e9 R s m args below meth c Q c0 hC hRf hRl hrc hrs fin)
          | .inr (.inl ((m2, as), (pc', L', st', h'))), e, hex, hc3, hs0 =>
            obtain ⟨x, k, n, tg, oks, hi, hdo, hcase⟩ := jm_ex_call hex
            obtain ⟨hk, rfl, rfl, rfl, hform⟩ := jm_do_call hdo
            have hlen := jm_args_len (hc3 m2 as _ rfl)
            cases d with
            | zero => cases e
            | succ d' =>
              dsimp only at e
              cases hr : jm_run G f d' m2 0 (jm_args (jm_mxl m2) as) [] h' with
              | none => rw [hr] at e; cases e
              | some q =>
                rw [hr] at e
                have hq1 := jm_run_cost _ _ _ _ _ _ _ _ hr
                have hq2 : q.2.2.2 ≤ r.2.2.2 := by
                  match q, e with
                  | (.inl v, h2), e => exact jm_run_cost _ _ _ _ _ _ _ _ e
                  | (.inr x, h2), e =>
                    dsimp only at e
                    cases hh : jm_hnd mi pc with
                    | none => rw [hh] at e; cases e; exact Nat.le_refl _
                    | some hp => rw [hh] at e; exact jm_run_cost _ _ _ _ _ _ _ _ e
                have hgo : L'.length = jm_mxl mi → c0 ≤ h'.2.2 → jm_go p l e9 R s m args below meth c Q D dA base G c0 mi pc (pc + len) L' st' q := by
                  intro hl0 hc0
                  refine ⟨fun v hv => ?_, fun a hv => ?_⟩
                  · obtain ⟨q1, q2⟩ := q
                    cases hv
                    exact ih _ mi _ _ _ _ r e hmi p e9 R s m args below meth c Q c0 hC hRf hRl hrc hrs fin
                  · obtain ⟨q1, q2⟩ := q
                    cases hv
                    dsimp only at e
                    cases hh : jm_hnd mi pc with
                    | none =>
                      rw [hh] at e
                      cases e
                      exact fin.2 a pc L' rfl (jm_run_thr _ _ _ _ _ _ _ _ _ hr) hh
                    | some hp =>
                      rw [hh] at e
                      exact jm_thrown V hC hh hl0 (Nat.le_trans hc0 hq1) (ih _ mi _ _ _ _ r e hmi p e9 R s m args below meth c Q c0 hC hRf hRl hrc hrs fin)
                obtain ⟨hif, -, -, -, VT, Vm, -⟩ := id V
                obtain ⟨-, -, -, -, -, -, -, -, -, -, -, T0, T1, -, T3, -, -, T6⟩ := VT mi hmi
                intro H locs ls hR hS hL hl0 hc0
                rcases hform with ⟨rfl, z, tl, rfl, hp⟩ | ⟨rfl, a, as', o, z, tl, rfl, rfl, ho, hp⟩ | ⟨hk36, a, as', o, rfl, ho, hlk2, hp⟩
                · rcases hcase with ⟨rfl, rfl⟩ | ⟨rfl, rfl⟩ | ⟨rfl, rfl⟩ | ⟨⟨ct, rfl⟩, rfl⟩
                  · obtain ⟨hok, hVi⟩ := T0 x n z m2 tl hi
                    obtain ⟨p1, p2, p3⟩ := jm_pop_of hp
                    have hn := eq_of_beq hlk
                    subst hn
                    exact jm_call0 X K Z hif (Vm m2 hok) (jm_met_of V ih hr hok hlen) (by omega) (by omega) p3 hq1 ⟨by omega, by omega⟩ hVi p2 p1 hd (hgo hl0 hc0) H locs ls hR hS hL hl0 hc0
                  · simp at hk
                  · simp at hk
                  · simp at hk
                · rcases hcase with ⟨rfl, rfl⟩ | ⟨rfl, rfl⟩ | ⟨rfl, rfl⟩ | ⟨⟨ct, rfl⟩, rfl⟩
                  · simp at hk
                  · obtain ⟨hok, hVi⟩ := T1 x n z m2 tl hi
                    obtain ⟨p1, p2, p3⟩ := jm_pop_of hp
                    have hn := eq_of_beq hlk
                    subst hn
                    have hoc : o.1 < jcl.length := by
                      obtain ⟨⟨r0, g1, -⟩, -⟩ := hR.look ho
                      exact (List.getElem?_eq_some_iff.mp g1).1
                    simp at p3
                    exact jm_call1 X K Z hif (Vm m2 hok) (jm_met_of V ih hr hok hlen) (by omega) (by omega) (by omega) hq1 ⟨by omega, by omega⟩ rfl ho hoc hVi p2 p1 hd (hgo hl0 hc0) H locs ls hR hS hL hl0 hc0
                  · simp at hk
                  · simp at hk
                · obtain ⟨p1, p2, p3⟩ := jm_pop_of hp
                  simp at p3
                  rcases hcase with ⟨rfl, rfl⟩ | ⟨rfl, rfl⟩ | ⟨rfl, rfl⟩ | ⟨⟨ct, rfl⟩, rfl⟩
                  · rcases hk36 with rfl | rfl <;> simp at hk
                  · rcases hk36 with rfl | rfl <;> simp at hk
                  · rcases hk36 with rfl | rfl
                    · obtain ⟨hok, hVi⟩ := T3 x n tg o.1 m2 hi hlk2
                      have hn := eq_of_beq hlk
                      subst hn
                      exact jm_call3 X K Z hif (Vm m2 hok) (jm_met_of V ih hr hok hlen) (by omega) (by omega) (by omega) hq1 ⟨by omega, by omega⟩ rfl ho hVi p2 p1 hd (hgo hl0 hc0) H locs ls hR hS hL hl0 hc0
                    · simp at hk
                  · rcases hk36 with rfl | rfl
                    · simp at hk
                    · obtain ⟨hok, hVi⟩ := T6 x n tg o.1 m2 hi hlk2
                      have hn := eq_of_beq hlk
                      subst hn
                      exact jm_call6 X K Z hif (Vm m2 hok) (jm_met_of V ih hr hok hlen) (by omega) (by omega) (by omega) hq1 ⟨by omega, by omega⟩ rfl ho hVi p2 p1 hd (hgo hl0 hc0) H locs ls hR hS hL hl0 hc0
          | .inr (.inr (.inl (v, h'))), e, hex, hc3, hs0 =>
            have hh : h' = h := by
              rcases jm_ex_end hex with ⟨-, -, q⟩ | ⟨-, y, -, q⟩ | ⟨-, y, -, q⟩ | ⟨-, y, -, -, q⟩ | ⟨-, a, r, V, -, -, q⟩ <;> cases q <;> rfl
            subst hh
            cases e
            exact fin.1 pc L st v rfl hs0
          | .inr (.inr (.inr (a, h'))), e, hex, hc3, hs0 =>
            rcases jm_ex_end hex with ⟨-, -, q⟩ | ⟨-, y, -, q⟩ | ⟨-, y, -, q⟩ | ⟨-, y, -, -, q⟩ | ⟨rfl, b, rr, V9, rfl, hV, q⟩
            · cases q
            · cases q
            · cases q
            · cases q
            · cases q
              have hn := eq_of_beq hlk
              subst hn
              intro H locs ls hR hS hL hl0 hc0
              obtain ⟨hbb, ⟨r0, hcl, -⟩, cell, q1, q2, q3, -⟩ := hR.2.2.1 _ _ hV
              have hfa : s.vm.findClass "GroupJournal$Fault" = some cell.cls := by
                obtain ⟨T9, N9, hf9⟩ := V.2.2.2.2.2.2.2.2.2
                rw [q2]
                exact (K.1.1 _ _ hf9).2.1
              refine vx_athrow X.1 X.2.1 hd ?_
              dsimp only at e
              cases hh : jm_hnd mi pc with
              | none =>
                rw [hh] at e
                cases e
                exact fin.2 _ pc L rfl ⟨V9, hV⟩ hh H locs ls rr cell hR hS hL q1 q3 hfa
              | some hp =>
                rw [hh] at e
                exact jm_thrown V hC hh hl0 hc0 (ih _ mi _ _ _ _ r e hmi p e9 R s m args below meth c Q c0 hC hRf hRl hrc hrs fin) H locs ls rr cell hR hS hL q1 q3 hfa
        · cases hs
      · cases hs
/-- THE RUN OF A FRAME IS THE JVM's: from the limit of the small machine -/
theorem jm_sound (V : jm_V) {d mi pc : Nat} {L : jm_L} {st : List Value} {h : jm_H} {r : jm_R} (e : jm_ev G d mi pc L st h = some r) (hmi : mi < jm_nm) {p : Program} {e9 : Env} {R : Room} {s : State} {m : MethodId} {args : Array Value} {below : List Frame} {meth : Method} {c : Code} {Q : State → Prop} {c0 : Nat} (C : jm_CX p s m args meth c D dA base G mi) (hRf : d + 1 ≤ R.frames) (hRl : 200 * d + 100 ≤ R.locals) (hrc : r.2.2.2 - c0 ≤ R.cells) (hrs : r.2.2.2 - c0 ≤ R.slots) (fin : jm_FIN p l e9 R s m args below meth c Q D dA base G c0 mi r) : jm_Wf p l e9 R s m args below meth c Q D dA base G c0 mi pc L st h := by
  obtain ⟨f, hf⟩ := jm_ev_some.mp e
  exact jm_all V f d mi pc L st h r hf hmi p e9 R s m args below meth c Q c0 C hRf hRl hrc hrs fin
end JMI
