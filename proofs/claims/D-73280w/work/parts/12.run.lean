/-! A RUN OF THE SMALL MACHINE, its limit, and how the limit steps -/
/-- the length that an instruction has, but for the switches -/
def jm_lok (i : Instr) (len : Nat) : Bool := match i with
  | .tableswitch _ _ _ _ => true
  | .lookupswitch _ _ => true
  | .bipush _ => len == 2
  | .ldc _ => len == 2
  | .iload _ => len == 2
  | .lload _ => len == 2
  | .fload _ => len == 2
  | .aload _ => len == 2
  | .istore _ => len == 2
  | .lstore _ => len == 2
  | .fstore _ => len == 2
  | .astore _ => len == 2
  | .newarray _ => len == 2
  | .sipush _ => len == 3
  | .ldc_w _ => len == 3
  | .ldc2_w _ => len == 3
  | .iinc _ _ => len == 3
  | .goto _ => len == 3
  | .ifCond _ _ => len == 3
  | .if_icmp _ _ => len == 3
  | .if_acmp _ _ => len == 3
  | .ifnull _ => len == 3
  | .ifnonnull _ => len == 3
  | .getfield _ => len == 3
  | .putfield _ => len == 3
  | .getstatic _ => len == 3
  | .invokevirtual _ => len == 3
  | .invokespecial _ => len == 3
  | .invokestatic _ => len == 3
  | .new _ => len == 3
  | .anewarray _ => len == 3
  | .checkcast _ => len == 3
  | .instanceof _ => len == 3
  | .multianewarray _ _ => len == 4
  | .invokeinterface _ _ => len == 5
  | _ => len == 1
/-- what is returned must be of the method's kind of answers -/
def jm_chk (rt : Option FieldType) (x : Option jm_A) : Option jm_A := match x with
  | some (.inr (.inr (.inl (some v, h)))) => (match rt with
    | some ty => if jm_fit ty v = true then some (.inr (.inr (.inl (some v, h)))) else none
    | none => none)
  | some (.inr (.inr (.inl (none, h)))) => (match rt with
    | some _ => none
    | none => some (.inr (.inr (.inl (none, h)))))
  | some (.inr (.inl ((m2, as), z))) => if (jm_sl as).length ≤ jm_mxl m2 then some (.inr (.inl ((m2, as), z))) else none
  | y => y
theorem jm_chk_of {rt : Option FieldType} {x : Option jm_A} {y : jm_A} (h : jm_chk rt x = some y) : x = some y ∧ (∀ v g, y = .inr (.inr (.inl (some v, g))) → ∃ ty, rt = some ty ∧ jm_fit ty v = true) ∧ (∀ g, y = .inr (.inr (.inl (none, g))) → rt = none) ∧ (∀ m2 as z, y = .inr (.inl ((m2, as), z)) → (jm_sl as).length ≤ jm_mxl m2) := by
  unfold jm_chk at h
  split at h
  · split at h
    · split at h
      · rename_i q
        cases h
        exact ⟨rfl, fun v g e => by cases e; exact ⟨_, rfl, q⟩, fun g e => (by cases e), fun m2 as z e => (by cases e)⟩
      · cases h
    · cases h
  · split at h
    · cases h
    · cases h
      exact ⟨rfl, fun v g e => (by cases e), fun g e => rfl, fun m2 as z e => (by cases e)⟩
  · split at h
    · rename_i q
      cases h
      exact ⟨rfl, fun v g e => (by cases e), fun g e => (by cases e), fun m2 as z e => (by cases e; exact q)⟩
    · cases h
  · rename_i n1 n2 n3
    subst h
    exact ⟨rfl, fun v g e => (by subst e; exact absurd rfl (n1 v g)), fun g e => (by subst e; exact absurd rfl (n2 g)), fun m2 as z e => (by subst e; exact absurd rfl (n3 m2 as z))⟩
def jm_step (G : jm_G) (mi pc : Nat) (L : jm_L) (st : List Value) (h : jm_H) : Option jm_A := match decode (jm_code mi) pc with
  | .ok (i, len) => if jm_lok i len = true then jm_chk (jm_ret mi) (jm_ex (jm_tab mi) G jm_fc pc len i L st h) else none
  | _ => none
def jm_run (G : jm_G) : Nat → Nat → Nat → Nat → jm_L → List Value → jm_H → Option jm_R
  | 0, _, _, _, _, _, _ => none
  | f + 1, d, mi, pc, L, st, h => match jm_step G mi pc L st h with
    | none => none
    | some (.inl (pc', L', st', h')) => jm_run G f d mi pc' L' st' h'
    | some (.inr (.inl ((m2, as), (pc', L', st', h')))) => (match d with
      | 0 => none
      | d' + 1 => match jm_run G f d' m2 0 (jm_args (jm_mxl m2) as) [] h' with
        | none => none
        | some (.inl v, h2) => jm_run G f (d' + 1) mi pc' L' (v.toList ++ st') h2
        | some (.inr a, h2) => match jm_hnd mi pc with
          | none => some (.inr a, h2)
          | some hp => jm_run G f (d' + 1) mi hp L' [.ref a] h2)
    | some (.inr (.inr (.inl (v, h')))) => some (.inl v, h')
    | some (.inr (.inr (.inr (a, h')))) => match jm_hnd mi pc with
      | none => some (.inr a, h')
      | some hp => jm_run G f d mi hp L [.ref a] h'
theorem jm_run_s {G : jm_G} : ∀ (f d mi pc : Nat) (L : jm_L) (st : List Value) (h : jm_H) (r : jm_R), jm_run G f d mi pc L st h = some r → jm_run G (f + 1) d mi pc L st h = some r := by
  intro f
  induction f with
  | zero => intro d mi pc L st h r e; simp [jm_run] at e
  | succ f ih =>
    intro d mi pc L st h r e
    rw [jm_run] at e
    rw [jm_run]
    cases hs : jm_step G mi pc L st h with
    | none => rw [hs] at e; cases e
    | some a =>
      rw [hs] at e
      match a, e with
      | .inl (pc', L', st', h'), e => exact ih _ _ _ _ _ _ _ e
      | .inr (.inl ((m2, as), (pc', L', st', h'))), e =>
        cases d with
        | zero => exact e
        | succ d' =>
          dsimp only at e ⊢
          cases hr : jm_run G f d' m2 0 (jm_args (jm_mxl m2) as) [] h' with
          | none => rw [hr] at e; cases e
          | some q =>
            rw [hr] at e
            rw [ih _ _ _ _ _ _ _ hr]
            match q, e with
            | (.inl v, h2), e => exact ih _ _ _ _ _ _ _ e
            | (.inr x, h2), e =>
              dsimp only at e ⊢
              cases hh : jm_hnd mi pc with
              | none => rw [hh] at e; exact e
              | some hp => rw [hh] at e; exact ih _ _ _ _ _ _ _ e
      | .inr (.inr (.inl (v, h'))), e => exact e
      | .inr (.inr (.inr (x, h'))), e =>
        dsimp only at e ⊢
        cases hh : jm_hnd mi pc with
        | none => rw [hh] at e; exact e
        | some hp => rw [hh] at e; exact ih _ _ _ _ _ _ _ e
theorem jm_run_le {G : jm_G} {f g d mi pc : Nat} {L : jm_L} {st : List Value} {h : jm_H} {r : jm_R} (hfg : f ≤ g) (e : jm_run G f d mi pc L st h = some r) : jm_run G g d mi pc L st h = some r := by
  obtain ⟨k, rfl⟩ := Nat.exists_eq_add_of_le hfg
  clear hfg
  induction k with
  | zero => exact e
  | succ k ih => exact jm_run_s _ _ _ _ _ _ _ _ ih
theorem jm_run_det {G : jm_G} {f g d mi pc : Nat} {L : jm_L} {st : List Value} {h : jm_H} {r r' : jm_R} (e : jm_run G f d mi pc L st h = some r) (e' : jm_run G g d mi pc L st h = some r') : r = r' := by
  have h1 := jm_run_le (Nat.le_max_left f g) e
  have h2 := jm_run_le (Nat.le_max_right f g) e'
  rw [h1] at h2
  exact Option.some.inj h2
noncomputable def jm_ev (G : jm_G) (d mi pc : Nat) (L : jm_L) (st : List Value) (h : jm_H) : Option jm_R :=
  @dite _ (∃ r, ∃ f, jm_run G f d mi pc L st h = some r) (Classical.propDecidable _) (fun q => some (Classical.choose q)) (fun _ => none)
theorem jm_ev_some {G : jm_G} {d mi pc : Nat} {L : jm_L} {st : List Value} {h : jm_H} {r : jm_R} : jm_ev G d mi pc L st h = some r ↔ ∃ f, jm_run G f d mi pc L st h = some r := by
  unfold jm_ev
  constructor
  · intro e
    by_cases q : ∃ r, ∃ f, jm_run G f d mi pc L st h = some r
    · rw [dif_pos q] at e
      rw [← Option.some.inj e]
      exact Classical.choose_spec q
    · rw [dif_neg q] at e
      cases e
  · rintro ⟨f, e⟩
    have q : ∃ r, ∃ f, jm_run G f d mi pc L st h = some r := ⟨r, f, e⟩
    rw [dif_pos q]
    obtain ⟨f', e'⟩ := Classical.choose_spec q
    rw [jm_run_det e' e]
/-- what a call's end does to its caller -/
noncomputable def jm_kon (G : jm_G) (d mi pc pc' : Nat) (L : jm_L) (st : List Value) (r : Option jm_R) : Option jm_R := match r with
  | none => none
  | some (.inl v, h2) => jm_ev G d mi pc' L (v.toList ++ st) h2
  | some (.inr a, h2) => match jm_hnd mi pc with
    | none => some (.inr a, h2)
    | some hp => jm_ev G d mi hp L [.ref a] h2
/-- one step of the limit -/
noncomputable def jm_nxt (G : jm_G) (d mi pc : Nat) (L : jm_L) (a : Option jm_A) : Option jm_R := match a with
  | none => none
  | some (.inl (pc', L', st', h')) => jm_ev G d mi pc' L' st' h'
  | some (.inr (.inl ((m2, as), (pc', L', st', h')))) => (match d with
    | 0 => none
    | d' + 1 => jm_kon G (d' + 1) mi pc pc' L' st' (jm_ev G d' m2 0 (jm_args (jm_mxl m2) as) [] h'))
  | some (.inr (.inr (.inl (v, h')))) => some (.inl v, h')
  | some (.inr (.inr (.inr (a, h')))) => match jm_hnd mi pc with
    | none => some (.inr a, h')
    | some hp => jm_ev G d mi hp L [.ref a] h'
theorem jm_opt_ext {α : Type} {x y : Option α} (h : ∀ r, x = some r ↔ y = some r) : x = y := by
  cases x with
  | none =>
    cases y with
    | none => rfl
    | some b => exact (h b).mpr rfl
  | some a => exact ((h a).mp rfl).symm
theorem jm_ev_eq {G : jm_G} {d mi pc : Nat} {L : jm_L} {st : List Value} {h : jm_H} : jm_ev G d mi pc L st h = jm_nxt G d mi pc L (jm_step G mi pc L st h) := by
  refine jm_opt_ext fun r => ?_
  rw [jm_ev_some]
  have key : (∃ f, jm_run G f d mi pc L st h = some r) ↔ ∃ f, jm_run G (f + 1) d mi pc L st h = some r :=
    ⟨fun ⟨f, e⟩ => ⟨f, jm_run_s _ _ _ _ _ _ _ _ e⟩, fun ⟨f, e⟩ => ⟨f + 1, e⟩⟩
  rw [key]
  unfold jm_run
  cases hs : jm_step G mi pc L st h with
  | none => simp [jm_nxt]
  | some a =>
    match a with
    | .inl (pc', L', st', h') => exact jm_ev_some.symm
    | .inr (.inl ((m2, as), (pc', L', st', h'))) =>
      cases d with
      | zero => simp [jm_nxt]
      | succ d' =>
        show _ ↔ jm_kon G (d' + 1) mi pc pc' L' st' (jm_ev G d' m2 0 (jm_args (jm_mxl m2) as) [] h') = some r
        cases hc : jm_ev G d' m2 0 (jm_args (jm_mxl m2) as) [] h' with
        | none =>
          have hn : ∀ f, jm_run G f d' m2 0 (jm_args (jm_mxl m2) as) [] h' = none := by
            intro f
            cases he : jm_run G f d' m2 0 (jm_args (jm_mxl m2) as) [] h' with
            | none => rfl
            | some q => rw [jm_ev_some.mpr ⟨f, he⟩] at hc; cases hc
          simp [hn, jm_kon]
        | some q =>
          obtain ⟨f0, h0⟩ := jm_ev_some.mp hc
          have hu : ∀ f q', jm_run G f d' m2 0 (jm_args (jm_mxl m2) as) [] h' = some q' → q' = q := fun f q' e => jm_run_det e h0
          match q with
          | (.inl v, h2) =>
            show _ ↔ jm_ev G (d' + 1) mi pc' L' (v.toList ++ st') h2 = some r
            rw [jm_ev_some]
            constructor
            · rintro ⟨f, e⟩
              dsimp only at e
              cases he : jm_run G f d' m2 0 (jm_args (jm_mxl m2) as) [] h' with
              | none => rw [he] at e; cases e
              | some q' =>
                obtain rfl := hu f q' he
                rw [he] at e
                exact ⟨f, e⟩
            · rintro ⟨f, e⟩
              refine ⟨max f f0, ?_⟩
              dsimp only
              rw [jm_run_le (Nat.le_max_right f f0) h0]
              exact jm_run_le (Nat.le_max_left f f0) e
          | (.inr x, h2) =>
            show _ ↔ (match jm_hnd mi pc with
              | none => some (.inr x, h2)
              | some hp => jm_ev G (d' + 1) mi hp L' [.ref x] h2) = some r
            cases hh : jm_hnd mi pc with
            | none =>
              constructor
              · rintro ⟨f, e⟩
                dsimp only at e
                cases he : jm_run G f d' m2 0 (jm_args (jm_mxl m2) as) [] h' with
                | none => rw [he] at e; cases e
                | some q' =>
                  obtain rfl := hu f q' he
                  rw [he] at e
                  exact e
              · intro e
                refine ⟨f0, ?_⟩
                dsimp only
                rw [h0]
                exact e
            | some hp =>
              dsimp only
              rw [jm_ev_some]
              constructor
              · rintro ⟨f, e⟩
                cases he : jm_run G f d' m2 0 (jm_args (jm_mxl m2) as) [] h' with
                | none => rw [he] at e; cases e
                | some q' =>
                  obtain rfl := hu f q' he
                  rw [he] at e
                  exact ⟨f, e⟩
              · rintro ⟨f, e⟩
                refine ⟨max f f0, ?_⟩
                rw [jm_run_le (Nat.le_max_right f f0) h0]
                exact jm_run_le (Nat.le_max_left f f0) e
    | .inr (.inr (.inl (v, h'))) => simp [jm_nxt]
    | .inr (.inr (.inr (x, h'))) =>
      show _ ↔ (match jm_hnd mi pc with
        | none => some (.inr x, h')
        | some hp => jm_ev G d mi hp L [.ref x] h') = some r
      cases hh : jm_hnd mi pc with
      | none => simp
      | some hp => exact jm_ev_some.symm
theorem jm_ev_x {G : jm_G} {d mi pc : Nat} {L : jm_L} {st : List Value} {h : jm_H} {i : Instr} {len : Nat} (hd : decode (jm_code mi) pc = .ok (i, len)) (hl : jm_lok i len = true) : jm_ev G d mi pc L st h = jm_nxt G d mi pc L (jm_chk (jm_ret mi) (jm_ex (jm_tab mi) G jm_fc pc len i L st h)) := by
  rw [jm_ev_eq]
  unfold jm_step
  rw [hd]
  dsimp only
  rw [if_pos hl]
