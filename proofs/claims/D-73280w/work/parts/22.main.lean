/-! THE RUN IS THE JVM's: by induction on the fuel -/
theorem jm_run_cost {G : jm_G} : ∀ (f d mi pc : Nat) (L : jm_L) (st : List Value) (h : jm_H) (r : jm_R), jm_run G f d mi pc L st h = some r → h.2.2 ≤ r.2.2.2 := by
  intro f
  induction f with
  | zero => intro d mi pc L st h r e; simp [jm_run] at e
  | succ f ih =>
    intro d mi pc L st h r e
    rw [jm_run] at e
    cases hs : jm_step G mi pc L st h with
    | none => rw [hs] at e; cases e
    | some a =>
      rw [hs] at e
      have hex : ∃ len i, jm_ex (jm_tab mi) G jm_fc pc len i L st h = some a := by
        unfold jm_step at hs
        split at hs
        · split at hs
          · exact ⟨_, _, (jm_chk_of hs).1⟩
          · cases hs
        · cases hs
      obtain ⟨len, i, hex⟩ := hex
      match a, e, hex with
      | .inl (pc', L', st', h'), e, hex => exact Nat.le_trans (jm_ex_cost hex) (ih _ _ _ _ _ _ _ e)
      | .inr (.inl ((m2, as), (pc', L', st', h'))), e, hex =>
        have hh : h' = h := by
          obtain ⟨x, k, n, tg, oks, -, hd, -⟩ := jm_ex_call hex
          exact (jm_do_call hd).2.2.2.1
        subst hh
        cases d with
        | zero => cases e
        | succ d' =>
          dsimp only at e
          cases hr : jm_run G f d' m2 0 (jm_args (jm_mxl m2) as) [] h' with
          | none => rw [hr] at e; cases e
          | some q =>
            rw [hr] at e
            have h1 := ih _ _ _ _ _ _ _ hr
            match q, e, h1 with
            | (.inl v, h2), e, h1 => exact Nat.le_trans h1 (ih _ _ _ _ _ _ _ e)
            | (.inr x, h2), e, h1 =>
              dsimp only at e
              cases hh : jm_hnd mi pc with
              | none => rw [hh] at e; cases e; exact h1
              | some hp => rw [hh] at e; exact Nat.le_trans h1 (ih _ _ _ _ _ _ _ e)
      | .inr (.inr (.inl (v, h'))), e, hex =>
        cases e
        have : h' = h := by
          rcases jm_ex_end hex with ⟨-, -, q⟩ | ⟨-, y, -, q⟩ | ⟨-, y, -, q⟩ | ⟨-, y, -, -, q⟩ | ⟨-, a, r, V, -, -, q⟩ <;> cases q <;> rfl
        rw [this]
        exact Nat.le_refl _
      | .inr (.inr (.inr (x, h'))), e, hex =>
        have hh : h' = h := by
          rcases jm_ex_end hex with ⟨-, -, q⟩ | ⟨-, y, -, q⟩ | ⟨-, y, -, q⟩ | ⟨-, y, -, -, q⟩ | ⟨-, a, r, V, -, -, q⟩ <;> cases q <;> rfl
        subst hh
        dsimp only at e
        cases hh : jm_hnd mi pc with
        | none => rw [hh] at e; cases e; exact Nat.le_refl _
        | some hp => rw [hh] at e; exact ih _ _ _ _ _ _ _ e
def jm_okm (m2 : Nat) : Prop := 0 < m2 ∧ m2 < jm_nm ∧ m2 ≠ 81
/-- the tables of one method's owner are right -/
def jm_VT (mi : Nat) : Prop :=
  (∀ x ci k, (jm_Tf (jm_tab mi) x).lookup ci = some k → jm_Vf (jm_own mi) x ci k) ∧
  (∀ ci k v, jm_Tp (jm_tab mi) ci k v = true → jm_fit (jm_tyf ci k) v = true ∧ k < jm_nf ci ∧ ((jm_fnl ci)[k]? = some 0 ∨ (jm_fnl ci)[k]? = some (jm_own mi + 1) ∧ (jm_mnm mi).name = "<init>" ∧ jm_own mi < 100)) ∧
  (∀ x q, jm_Ts (jm_tab mi) x = some q → ∃ C n d ref, (q, C, n, d) ∈ jm_sts ∧ ((Jvm.Cond.fieldLink (jm_onm (jm_own mi)) x ref n d) ∈ lw_all ∨ ∃ host, (Jvm.Cond.fieldLinkNest (jm_onm (jm_own mi)) x ref n d host) ∈ lw_tbl) ∧ ref = C) ∧
  (∀ x v, jm_Tc (jm_tab mi) x = some v → jm_Vl (jm_own mi) x v) ∧
  (∀ x v, jm_Tl (jm_tab mi) x = some v → (Jvm.Cond.constantLong (jm_onm (jm_own mi)) x v) ∈ lw_all) ∧
  (∀ x q, jm_Tn (jm_tab mi) x = some q → q.2.1 = jm_nf q.1 ∧ q.2.2 = jm_tyf q.1 ∧ ∃ C T' N, jcl[q.1]? = some (C, T', N) ∧ (Jvm.Cond.classLink (jm_onm (jm_own mi)) x C) ∈ lw_all ∧ q.1 ≠ 38) ∧
  (∀ x ti, jm_Ta (jm_tab mi) x = some ti → ∃ C, jm_aty[ti]? = some (.object C) ∧ C ∈ jm_aos ∧ (Jvm.Cond.classLink (jm_onm (jm_own mi)) x C) ∈ lw_all) ∧
  (∀ x q, jm_Tm (jm_tab mi) x = some q → q = (9, 0) ∧ (Jvm.Cond.classLink (jm_onm (jm_own mi)) x "[[I") ∈ lw_all) ∧
  (∀ x kd, kd ∈ jm_Tk (jm_tab mi) x → ∃ nm, (Jvm.Cond.classLink (jm_onm (jm_own mi)) x nm) ∈ lw_all ∧ jm_kx kd nm) ∧
  (∀ x kd b, (jm_To (jm_tab mi) x).lookup kd = some b → ∃ nm, (Jvm.Cond.classLink (jm_onm (jm_own mi)) x nm) ∈ lw_all ∧ jm_ky kd nm b) ∧
  jm_Tq (jm_tab mi) = jm_asg ∧
  (∀ x n z m2 tl, jm_Ti (jm_tab mi) x = some (0, n, (z, m2) :: tl) → jm_okm m2 ∧ jm_Vi0 (jm_own mi) x n m2) ∧
  (∀ x n z m2 tl, jm_Ti (jm_tab mi) x = some (1, n, (z, m2) :: tl) → jm_okm m2 ∧ jm_Vi1 (jm_own mi) x n m2) ∧
  (∀ x n tg, jm_Ti (jm_tab mi) x = some (2, n, tg) → n = 0 ∧ (Jvm.Cond.methodLink (jm_onm (jm_own mi)) x Lib.objectInit) ∈ lw_all ∧ (Jvm.Cond.instanceMethod Lib.objectInit) ∈ lw_all ∧ (Jvm.Cond.code Lib.objectInit ⟨#[0xb1]⟩ 1 none) ∈ lw_all) ∧
  (∀ x n tg ci m2, jm_Ti (jm_tab mi) x = some (3, n, tg) → tg.lookup ci = some m2 → jm_okm m2 ∧ jm_Vi3 (jm_own mi) x n ci m2) ∧
  (∀ x n tg, jm_Ti (jm_tab mi) x = some (4, n, tg) → n = 5 ∧ (Jvm.Cond.methodLink (jm_onm (jm_own mi)) x arraycopyName) ∈ lw_all ∧ (Jvm.Cond.native arraycopyName) ∈ lw_all ∧ (Jvm.Cond.static arraycopyName) ∈ lw_all ∧ (Jvm.Cond.initialized "java/lang/System") ∈ lw_all) ∧
  (∀ x n tg, jm_Ti (jm_tab mi) x = some (5, n, tg) → n = 0 ∧ (Jvm.Cond.methodLink (jm_onm (jm_own mi)) x ⟨"java/lang/Object", "getClass", "()Ljava/lang/Class;"⟩) ∈ lw_all ∧ (Jvm.Cond.instanceMethod ⟨"java/lang/Object", "getClass", "()Ljava/lang/Class;"⟩) ∈ lw_all ∧ (Jvm.Cond.native ⟨"java/lang/Object", "getClass", "()Ljava/lang/Class;"⟩) ∈ lw_all ∧ ∀ t q, tg.lookup t = some q → ∃ ty, jm_aty[t]? = some ty ∧ (q, "[" ++ ty.toString) ∈ jm_mis ∧ (Jvm.Cond.selects ("[" ++ ty.toString) ⟨"java/lang/Object", "getClass", "()Ljava/lang/Class;"⟩ ⟨"java/lang/Object", "getClass", "()Ljava/lang/Class;"⟩) ∈ lw_all) ∧
  (∀ x n tg ci m2, jm_Ti (jm_tab mi) x = some (6, n, tg) → tg.lookup ci = some m2 → jm_okm m2 ∧ jm_Vi6 (jm_own mi) x n ci m2)
/-- all the tables are right -/
def jm_V : Prop := (∀ q ∈ jm_ifs, jm_nmh q.2.1.cls) ∧ (∀ ci, ci < jcl.length → jm_Vc ci) ∧ jm_Vq ∧ (∀ t ti ty, jm_at t = some (ti, ty) → (Jvm.Cond.arrayClass ty) ∈ lw_all) ∧ (∀ mi, mi < jm_nm → jm_VT mi) ∧ (∀ mi, jm_okm mi → jm_Vm mi) ∧
  (∀ mi pc, jm_hnd mi pc = none → ∀ z ∈ tableOf (jm_hh mi), covers z pc = false) ∧ (∀ mi pc hp, jm_hnd mi pc = some hp → ∃ z, tableOf (jm_hh mi) = [z] ∧ covers z pc = true ∧ z.handlerPc = hp ∧ z.catchType ≠ 0 ∧ (Jvm.Cond.classLink (jm_onm (jm_own mi)) z.catchType "GroupJournal$Fault") ∈ lw_all) ∧ (Jvm.Cond.castable "GroupJournal$Fault" "GroupJournal$Fault") ∈ lw_tbl ∧ (∃ T N, jcl[jm_fc]? = some ("GroupJournal$Fault", T, N))
