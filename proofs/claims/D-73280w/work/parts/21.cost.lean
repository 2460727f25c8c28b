/-! A RUN OF THE SMALL MACHINE IS A RUN OF THE JVM -/
theorem jm_do_inl {oks : List Nat} {ok : Nat → Nat → Bool} {G : jm_G} {k n : Nat} {tg : List (Nat × Nat)} {pc pc2 : Nat} {L L2 : jm_L} {st st2 : List Value} {h h2 : jm_H} (he : jm_do oks ok G k n tg pc L st h = some (.inl (pc2, L2, st2, h2))) : oks.contains k = true ∧ (k = 2 ∨ k = 4 ∨ k = 5) ∧ h2.2 = h.2 := by
  unfold jm_do at he
  split at he
  · rename_i hk
    refine ⟨hk, ?_⟩
    split at he
    · cases he
    · split at he
      · split at he <;> cases he
      · split at he
        · split at he
          · split at he <;> cases he
          · cases he
        · cases he
      · split at he
        · cases he; exact ⟨Or.inl rfl, rfl⟩
        · cases he
      · split at he
        · split at he
          · split at he <;> cases he
          · cases he
        · cases he
      · split at he
        · split at he
          · rename_i hcp
            cases he
            refine ⟨Or.inr (Or.inl rfl), ?_⟩
            unfold jm_copy at hcp
            split at hcp
            · split at hcp
              · cases hcp; rfl
              · cases hcp
            · split at hcp
              · cases hcp; rfl
              · cases hcp
            · cases hcp
          · cases he
        · cases he
      · split at he
        · split at he
          · split at he
            · cases he; exact ⟨Or.inr (Or.inr rfl), rfl⟩
            · cases he
          · cases he
        · cases he
      · split at he
        · split at he
          · split at he <;> cases he
          · cases he
        · cases he
      · cases he
  · cases he
theorem jm_do_call {oks : List Nat} {ok : Nat → Nat → Bool} {G : jm_G} {k n m2 : Nat} {tg : List (Nat × Nat)} {pc pc2 : Nat} {L L2 : jm_L} {st st2 as : List Value} {h h2 : jm_H} (he : jm_do oks ok G k n tg pc L st h = some (.inr (.inl ((m2, as), (pc2, L2, st2, h2))))) : oks.contains k = true ∧ pc2 = pc ∧ L2 = L ∧ h2 = h ∧ ((k = 0 ∧ ∃ z tl, tg = (z, m2) :: tl ∧ jm_pop n st = some (as, st2)) ∨ (k = 1 ∧ ∃ a as' o z tl, tg = (z, m2) :: tl ∧ as = .ref a :: as' ∧ jm_look G h a = some (.inl o) ∧ jm_pop n st = some (as', .ref a :: st2)) ∨ ((k = 3 ∨ k = 6) ∧ ∃ a as' o, as = .ref a :: as' ∧ jm_look G h a = some (.inl o) ∧ tg.lookup o.1 = some m2 ∧ jm_pop n st = some (as', .ref a :: st2))) := by
  unfold jm_do at he
  split at he
  · rename_i hk
    refine ⟨hk, ?_⟩
    split at he
    · cases he
    · rename_i hp
      split at he
      · split at he
        · cases he; exact ⟨rfl, rfl, rfl, Or.inl ⟨rfl, _, _, rfl, hp⟩⟩
        · cases he
      · split at he
        · split at he
          · rename_i ho
            split at he
            · cases he; exact ⟨rfl, rfl, rfl, Or.inr (Or.inl ⟨rfl, _, _, _, _, _, rfl, rfl, ho, hp⟩)⟩
            · cases he
          · cases he
        · cases he
      · split at he <;> cases he
      · split at he
        · split at he
          · rename_i ho
            split at he
            · rename_i hlk
              cases he; exact ⟨rfl, rfl, rfl, Or.inr (Or.inr ⟨Or.inl rfl, _, _, _, rfl, ho, hlk, hp⟩)⟩
            · cases he
          · cases he
        · cases he
      · split at he
        · split at he <;> cases he
        · cases he
      · split at he
        · split at he
          · split at he <;> cases he
          · cases he
        · cases he
      · split at he
        · split at he
          · rename_i ho
            split at he
            · rename_i hlk
              cases he; exact ⟨rfl, rfl, rfl, Or.inr (Or.inr ⟨Or.inr rfl, _, _, _, rfl, ho, hlk, hp⟩)⟩
            · cases he
          · cases he
        · cases he
      · cases he
  · cases he
theorem jm_do_end {oks : List Nat} {ok : Nat → Nat → Bool} {G : jm_G} {k n : Nat} {tg : List (Nat × Nat)} {pc : Nat} {L : jm_L} {st : List Value} {h : jm_H} {x : (Option Value × jm_H) ⊕ (Nat × jm_H)} (he : jm_do oks ok G k n tg pc L st h = some (.inr (.inr x))) : False := by
  unfold jm_do at he
  split at he
  · split at he
    · cases he
    · split at he
      · split at he <;> cases he
      · split at he
        · split at he
          · split at he <;> cases he
          · cases he
        · cases he
      · split at he <;> cases he
      · split at he
        · split at he
          · split at he <;> cases he
          · cases he
        · cases he
      · split at he
        · split at he <;> cases he
        · cases he
      · split at he
        · split at he
          · split at he <;> cases he
          · cases he
        · cases he
      · split at he
        · split at he
          · split at he <;> cases he
          · cases he
        · cases he
      · cases he
  · cases he
/-- what one instruction can be: a step in the frame, a call, an end -/
theorem jm_nx_h {pc pc' : Nat} {L L' : jm_L} {st st' : List Value} {h h' : jm_H} (he : jm_nx pc L st h = some (.inl (pc', L', st', h'))) : h' = h := by cases he; rfl
theorem jm_br_h {pc pc' : Nat} {off : Int} {L L' : jm_L} {st st' : List Value} {h h' : jm_H} (he : jm_br pc off L st h = some (.inl (pc', L', st', h'))) : h' = h := (jm_br_inl he).2.2.2
theorem jm_cbr_h {b : Bool} {pc nxt pc' : Nat} {off : Int} {L L' : jm_L} {st st' : List Value} {h h' : jm_H} (he : jm_cbr b pc nxt off L st h = some (.inl (pc', L', st', h'))) : h' = h := by
  obtain ⟨_, -, -, -, -, -, q⟩ := jm_cbr_inl he
  exact q

theorem jm_ex_cost {T : jm_T} {G : jm_G} {fa pc len pc2 : Nat} {i : Instr} {L L2 : jm_L} {st st2 : List Value} {h h2 : jm_H} (he : jm_ex T G fa pc len i L st h = some (.inl (pc2, L2, st2, h2))) : h.2.2 ≤ h2.2.2 := by
  have same : h2 = h → h.2.2 ≤ h2.2.2 := fun q => by rw [q]; exact Nat.le_refl _
  have samec : h2.2 = h.2 → h.2.2 ≤ h2.2.2 := fun q => by rw [q]; exact Nat.le_refl _
  cases i with
  | d2f => cases he
  | d2i => cases he
  | d2l => cases he
  | dadd => cases he
  | daload => cases he
  | dastore => cases he
  | dcmp _ => cases he
  | dconst _ => cases he
  | ddiv => cases he
  | dload _ => cases he
  | dload_n _ => cases he
  | dmul => cases he
  | dneg => cases he
  | drem => cases he
  | dreturn => cases he
  | dstore _ => cases he
  | dstore_n _ => cases he
  | dsub => cases he
  | dup2_x1 => cases he
  | dup2_x2 => cases he
  | f2d => cases he
  | f2l => cases he
  | fadd => cases he
  | faload => cases he
  | fastore => cases he
  | fdiv => cases he
  | fneg => cases he
  | frem => cases he
  | freturn => cases he
  | fsub => cases he
  | goto_w _ => cases he
  | i2d => cases he
  | i2s => cases he
  | invokedynamic _ => cases he
  | jsr _ => cases he
  | jsr_w _ => cases he
  | l2d => cases he
  | l2f => cases he
  | lneg => cases he
  | lshr => cases he
  | monitorenter => cases he
  | monitorexit => cases he
  | pop2 => cases he
  | putstatic _ => cases he
  | ret _ => cases he
  | saload => cases he
  | sastore => cases he
  | swap => cases he
  | nop => exact same (jm_nx_h he)
  | aconst_null => exact same (jm_nx_h he)
  | iconst _ => exact same (jm_nx_h he)
  | lconst _ => exact same (jm_nx_h he)
  | bipush _ => exact same (jm_nx_h he)
  | sipush _ => exact same (jm_nx_h he)
  | fconst _ => dsimp only [jm_ex] at he; split at he <;> first | exact same (jm_nx_h he) | cases he
  | ldc _ => obtain ⟨v, -, -, -, -, q⟩ := jm_push_inl he; exact same q
  | ldc2_w _ => obtain ⟨v, -, -, -, -, q⟩ := jm_push_inl he; exact same q
  | ldc_w _ => 
    dsimp only [jm_ex] at he
    split at he
    · exact same (jm_nx_h he)
    · split at he <;> first | exact same (jm_nx_h he) | cases he
    · cases he
  | iload _ => obtain ⟨v, -, -, -, -, -, q⟩ := jm_ld_inl he; exact same q
  | iload_n _ => obtain ⟨v, -, -, -, -, -, q⟩ := jm_ld_inl he; exact same q
  | lload _ => obtain ⟨v, -, -, -, -, -, q⟩ := jm_ld_inl he; exact same q
  | lload_n _ => obtain ⟨v, -, -, -, -, -, q⟩ := jm_ld_inl he; exact same q
  | fload _ => obtain ⟨v, -, -, -, -, -, q⟩ := jm_ld_inl he; exact same q
  | fload_n _ => obtain ⟨v, -, -, -, -, -, q⟩ := jm_ld_inl he; exact same q
  | aload _ => obtain ⟨v, -, -, -, -, -, q⟩ := jm_ld_inl he; exact same q
  | aload_n _ => obtain ⟨v, -, -, -, -, -, q⟩ := jm_ld_inl he; exact same q
  | istore _ => obtain ⟨v, r, -, -, -, -, -, -, q⟩ := jm_sto_inl he; exact same q
  | istore_n _ => obtain ⟨v, r, -, -, -, -, -, -, q⟩ := jm_sto_inl he; exact same q
  | fstore _ => obtain ⟨v, r, -, -, -, -, -, -, q⟩ := jm_sto_inl he; exact same q
  | fstore_n _ => obtain ⟨v, r, -, -, -, -, -, -, q⟩ := jm_sto_inl he; exact same q
  | astore _ => obtain ⟨v, r, -, -, -, -, -, -, q⟩ := jm_sto_inl he; exact same q
  | astore_n _ => obtain ⟨v, r, -, -, -, -, -, -, q⟩ := jm_sto_inl he; exact same q
  | lstore _ => obtain ⟨x, r, -, -, -, -, -, q⟩ := jm_stoJ_inl he; exact same q
  | lstore_n _ => obtain ⟨x, r, -, -, -, -, -, q⟩ := jm_stoJ_inl he; exact same q
  | iinc _ _ => dsimp only [jm_ex] at he; split at he <;> first | exact same (jm_nx_h he) | cases he
  | pop => 
    dsimp only [jm_ex] at he
    split at he
    · obtain ⟨-, -, -, -, q⟩ := jm_fnx_inl he; exact same q
    · cases he
  | dup => 
    dsimp only [jm_ex] at he
    split at he
    · obtain ⟨-, -, -, -, q⟩ := jm_fnx_inl he; exact same q
    · cases he
  | dup_x1 => 
    dsimp only [jm_ex] at he
    split at he
    · obtain ⟨-, -, -, -, q⟩ := jm_fnx_inl he; exact same q
    · cases he
  | dup_x2 => 
    dsimp only [jm_ex] at he
    split at he
    · obtain ⟨-, -, -, -, q⟩ := jm_fnx_inl he; exact same q
    · cases he
  | dup2 => 
    dsimp only [jm_ex] at he
    split at he
    · exact same (jm_nx_h he)
    · obtain ⟨-, -, -, -, q⟩ := jm_fnx_inl he; exact same q
    · cases he
  | iadd => obtain ⟨_, _, _, -, -, -, -, q⟩ := jm_int2_inl he; exact same q
  | isub => obtain ⟨_, _, _, -, -, -, -, q⟩ := jm_int2_inl he; exact same q
  | imul => obtain ⟨_, _, _, -, -, -, -, q⟩ := jm_int2_inl he; exact same q
  | iand => obtain ⟨_, _, _, -, -, -, -, q⟩ := jm_int2_inl he; exact same q
  | ior => obtain ⟨_, _, _, -, -, -, -, q⟩ := jm_int2_inl he; exact same q
  | ixor => obtain ⟨_, _, _, -, -, -, -, q⟩ := jm_int2_inl he; exact same q
  | ishl => obtain ⟨_, _, _, -, -, -, -, q⟩ := jm_int2_inl he; exact same q
  | ishr => obtain ⟨_, _, _, -, -, -, -, q⟩ := jm_int2_inl he; exact same q
  | iushr => obtain ⟨_, _, _, -, -, -, -, q⟩ := jm_int2_inl he; exact same q
  | ladd => obtain ⟨_, _, _, -, -, -, -, q⟩ := jm_lng2_inl he; exact same q
  | lsub => obtain ⟨_, _, _, -, -, -, -, q⟩ := jm_lng2_inl he; exact same q
  | lmul => obtain ⟨_, _, _, -, -, -, -, q⟩ := jm_lng2_inl he; exact same q
  | land => obtain ⟨_, _, _, -, -, -, -, q⟩ := jm_lng2_inl he; exact same q
  | lor => obtain ⟨_, _, _, -, -, -, -, q⟩ := jm_lng2_inl he; exact same q
  | lxor => obtain ⟨_, _, _, -, -, -, -, q⟩ := jm_lng2_inl he; exact same q
  | ineg => obtain ⟨_, _, -, -, -, -, q⟩ := jm_int1_inl he; exact same q
  | i2l => obtain ⟨_, _, -, -, -, -, q⟩ := jm_int1_inl he; exact same q
  | i2b => obtain ⟨_, _, -, -, -, -, q⟩ := jm_int1_inl he; exact same q
  | i2c => obtain ⟨_, _, -, -, -, -, q⟩ := jm_int1_inl he; exact same q
  | i2f => obtain ⟨_, _, -, -, -, -, q⟩ := jm_int1_inl he; exact same q
  | idiv => 
    dsimp only [jm_ex] at he
    split at he
    · split at he <;> first | exact same (jm_nx_h he) | cases he
    · cases he
  | irem => 
    dsimp only [jm_ex] at he
    split at he
    · split at he <;> first | exact same (jm_nx_h he) | cases he
    · cases he
  | ldiv => 
    dsimp only [jm_ex] at he
    split at he
    · split at he <;> first | exact same (jm_nx_h he) | cases he
    · cases he
  | lrem => 
    dsimp only [jm_ex] at he
    split at he
    · split at he <;> first | exact same (jm_nx_h he) | cases he
    · cases he
  | l2i => dsimp only [jm_ex] at he; split at he <;> first | exact same (jm_nx_h he) | cases he
  | f2i => dsimp only [jm_ex] at he; split at he <;> first | exact same (jm_nx_h he) | cases he
  | lshl => dsimp only [jm_ex] at he; split at he <;> first | exact same (jm_nx_h he) | cases he
  | lushr => dsimp only [jm_ex] at he; split at he <;> first | exact same (jm_nx_h he) | cases he
  | lcmp => dsimp only [jm_ex] at he; split at he <;> first | exact same (jm_nx_h he) | cases he
  | fcmp _ => dsimp only [jm_ex] at he; split at he <;> first | exact same (jm_nx_h he) | cases he
  | fmul => 
    dsimp only [jm_ex] at he
    split at he
    · split at he <;> first | exact same (jm_nx_h he) | cases he
    · cases he
  | goto _ => obtain ⟨-, -, -, q⟩ := jm_br_inl he; exact same q
  | ifCond _ _ => 
    dsimp only [jm_ex] at he
    split at he
    · obtain ⟨_, -, -, -, -, -, q⟩ := jm_cbr_inl he; exact same q
    · cases he
  | if_icmp _ _ => 
    dsimp only [jm_ex] at he
    split at he
    · obtain ⟨_, -, -, -, -, -, q⟩ := jm_cbr_inl he; exact same q
    · cases he
  | if_acmp ac _ => 
    cases ac <;> dsimp only [jm_ex] at he <;> split at he <;> first | exact same (jm_cbr_h he) | cases he
  | ifnull _ => 
    dsimp only [jm_ex] at he
    split at he <;> first | exact same (jm_nx_h he) | exact same (jm_br_h he) | cases he
  | ifnonnull _ => 
    dsimp only [jm_ex] at he
    split at he <;> first | exact same (jm_nx_h he) | exact same (jm_br_h he) | cases he
  | tableswitch _ _ _ _ => 
    dsimp only [jm_ex] at he
    split at he
    · split at he
      · obtain ⟨-, -, -, q⟩ := jm_br_inl he; exact same q
      · split at he
        · obtain ⟨-, -, -, q⟩ := jm_br_inl he; exact same q
        · cases he
    · cases he
  | lookupswitch _ _ => 
    dsimp only [jm_ex] at he
    split at he
    · split at he
      · obtain ⟨-, -, -, q⟩ := jm_br_inl he; exact same q
      · cases he
    · cases he
  | getfield _ => 
    dsimp only [jm_ex] at he
    split at he
    · obtain ⟨v, -, -, -, -, q⟩ := jm_push_inl he; exact same q
    · cases he
  | iaload => 
    dsimp only [jm_ex] at he
    split at he
    · obtain ⟨v, -, -, -, -, q⟩ := jm_push_inl he; exact same q
    · cases he
  | baload => 
    dsimp only [jm_ex] at he
    split at he
    · obtain ⟨v, -, -, -, -, q⟩ := jm_push_inl he; exact same q
    · cases he
  | caload => 
    dsimp only [jm_ex] at he
    split at he
    · obtain ⟨v, -, -, -, -, q⟩ := jm_push_inl he; exact same q
    · cases he
  | laload => 
    dsimp only [jm_ex] at he
    split at he
    · obtain ⟨v, -, -, -, -, q⟩ := jm_push_inl he; exact same q
    · cases he
  | aaload => 
    dsimp only [jm_ex] at he
    split at he
    · obtain ⟨v, -, -, -, -, q⟩ := jm_push_inl he; exact same q
    · cases he
  | arraylength => 
    dsimp only [jm_ex] at he
    split at he
    · obtain ⟨v, -, -, -, -, q⟩ := jm_push_inl he; exact same q
    · cases he
  | instanceof _ => 
    dsimp only [jm_ex] at he
    split at he
    · obtain ⟨v, -, -, -, -, q⟩ := jm_push_inl he; exact same q
    · cases he
  | checkcast _ => 
    dsimp only [jm_ex] at he
    split at he
    · obtain ⟨-, -, -, -, q⟩ := jm_fnx_inl he; exact same q
    · cases he
  | getstatic _ => dsimp only [jm_ex] at he; split at he <;> first | exact same (jm_nx_h he) | cases he
  | putfield _ => 
    dsimp only [jm_ex] at he
    split at he
    · split at he
      · rename_i hp
        cases he
        refine samec ?_
        unfold jm_pf at hp
        split at hp
        · split at hp
          · split at hp
            · cases hp; rfl
            · cases hp
          · cases hp
        · cases hp
      · cases he
    · cases he
  | iastore => 
    dsimp only [jm_ex] at he
    split at he
    · split at he
      · rename_i hp
        cases he
        refine samec ?_
        unfold jm_si at hp
        split at hp
        · split at hp
          · split at hp
            · cases hp; rfl
            · cases hp
          · cases hp
        · cases hp
      · cases he
    · cases he
  | bastore => 
    dsimp only [jm_ex] at he
    split at he
    · split at he
      · rename_i hp
        cases he
        refine samec ?_
        unfold jm_si at hp
        split at hp
        · split at hp
          · split at hp
            · cases hp; rfl
            · cases hp
          · cases hp
        · cases hp
      · cases he
    · cases he
  | castore => 
    dsimp only [jm_ex] at he
    split at he
    · split at he
      · rename_i hp
        cases he
        refine samec ?_
        unfold jm_si at hp
        split at hp
        · split at hp
          · split at hp
            · cases hp; rfl
            · cases hp
          · cases hp
        · cases hp
      · cases he
    · cases he
  | lastore => 
    dsimp only [jm_ex] at he
    split at he
    · split at he
      · rename_i hp
        cases he
        refine samec ?_
        unfold jm_sj at hp
        split at hp
        · split at hp
          · split at hp
            · cases hp; rfl
            · cases hp
          · cases hp
        · cases hp
      · cases he
    · cases he
  | aastore => 
    dsimp only [jm_ex] at he
    split at he
    · split at he
      · rename_i hp
        cases he
        refine samec ?_
        unfold jm_sq at hp
        split at hp
        · split at hp
          · split at hp
            · split at hp
              · cases hp; rfl
              · cases hp
            · split at hp
              · split at hp
                · cases hp; rfl
                · cases hp
              · cases hp
            · cases hp
          · cases hp
        · cases hp
      · cases he
    · cases he
  | new _ => 
    dsimp only [jm_ex] at he
    split at he
    · cases he
      show h.2.2 ≤ h.2.2 + _ + 1
      omega
    · cases he
  | newarray _ => 
    dsimp only [jm_ex] at he
    split at he
    · split at he
      · cases he
      · split at he
        · split at he
          · rename_i hp
            cases he
            unfold jm_nwa at hp
            split at hp
            · split at hp
              · cases hp
                show h.2.2 ≤ h.2.2 + _ + 1
                omega
              · cases hp
            · cases hp
          · cases he
        · cases he
    · cases he
  | anewarray _ => 
    dsimp only [jm_ex] at he
    split at he
    · split at he
      · cases he
      · split at he
        · split at he
          · rename_i hp
            cases he
            unfold jm_nwa at hp
            split at hp
            · split at hp
              · cases hp
                show h.2.2 ≤ h.2.2 + _ + 1
                omega
              · cases hp
            · cases hp
          · cases he
        · cases he
    · cases he
  | multianewarray _ _ => 
    dsimp only [jm_ex] at he
    split at he
    · split at he
      · cases he
      · split at he
        · cases he
          show h.2.2 ≤ h.2.2 + 1 + _ + _ + _
          omega
        · cases he
    · cases he
  | athrow => 
    dsimp only [jm_ex] at he
    split at he
    · split at he
      · split at he <;> cases he
      · cases he
    · cases he
  | ireturn => dsimp only [jm_ex] at he; split at he <;> cases he
  | lreturn => dsimp only [jm_ex] at he; split at he <;> cases he
  | areturn => 
    dsimp only [jm_ex] at he
    split at he
    · split at he <;> cases he
    · cases he
  | return_ => dsimp only [jm_ex] at he; split at he <;> cases he
  | invokestatic _ => 
    dsimp only [jm_ex] at he
    split at he
    · exact samec (jm_do_inl he).2.2
    · cases he
  | invokespecial _ => 
    dsimp only [jm_ex] at he
    split at he
    · exact samec (jm_do_inl he).2.2
    · cases he
  | invokevirtual _ => 
    dsimp only [jm_ex] at he
    split at he
    · exact samec (jm_do_inl he).2.2
    · cases he
  | invokeinterface _ _ => 
    dsimp only [jm_ex] at he
    split at he
    · exact samec (jm_do_inl he).2.2
    · cases he
theorem jm_ex_call {T : jm_T} {G : jm_G} {fa pc len : Nat} {i : Instr} {L : jm_L} {st : List Value} {h : jm_H} {q : Nat × List Value} {z : jm_N} (he : jm_ex T G fa pc len i L st h = some (.inr (.inl (q, z)))) : (∃ x k n tg oks, jm_Ti T x = some (k, n, tg) ∧ jm_do oks (jm_Tq T) G k n tg (pc + len) L st h = some (.inr (.inl (q, z))) ∧ ((i = .invokestatic x ∧ oks = [0, 4]) ∨ (i = .invokespecial x ∧ oks = [1, 2]) ∨ (i = .invokevirtual x ∧ oks = [3, 5]) ∨ (∃ ct, i = .invokeinterface x ct) ∧ oks = [6])) := by
  have nocall : ∀ {o : Option jm_A}, (∀ y, o = some y → ∃ w, y = .inl w) → o = some (.inr (.inl (q, z))) → False := fun h1 h2 => by
    obtain ⟨w, hw⟩ := h1 _ h2
    cases hw
  cases i with
  | invokestatic x =>
    dsimp only [jm_ex] at he
    split at he
    · rename_i hi; exact ⟨x, _, _, _, _, hi, he, Or.inl ⟨rfl, rfl⟩⟩
    · cases he
  | invokespecial x =>
    dsimp only [jm_ex] at he
    split at he
    · rename_i hi; exact ⟨x, _, _, _, _, hi, he, Or.inr (Or.inl ⟨rfl, rfl⟩)⟩
    · cases he
  | invokevirtual x =>
    dsimp only [jm_ex] at he
    split at he
    · rename_i hi; exact ⟨x, _, _, _, _, hi, he, Or.inr (Or.inr (Or.inl ⟨rfl, rfl⟩))⟩
    · cases he
  | invokeinterface x ct =>
    dsimp only [jm_ex] at he
    split at he
    · rename_i hi; exact ⟨x, _, _, _, _, hi, he, Or.inr (Or.inr (Or.inr ⟨⟨ct, rfl⟩, rfl⟩))⟩
    · cases he
  | if_acmp ac o => exact absurd he (by cases ac <;> simp only [jm_ex, jm_cbr, jm_nx] <;> (repeat' split) <;> simp)
  | _ => exact absurd he (by simp only [jm_ex, jm_nx, jm_br, jm_cbr, jm_push, jm_fnx, jm_ld, jm_sto, jm_stoJ, jm_int1, jm_int2, jm_lng2] <;> (repeat' split) <;> simp)
theorem jm_ex_end {T : jm_T} {G : jm_G} {fa pc len : Nat} {i : Instr} {L : jm_L} {st : List Value} {h : jm_H} {x : (Option Value × jm_H) ⊕ (Nat × jm_H)} (he : jm_ex T G fa pc len i L st h = some (.inr (.inr x))) : (i = .return_ ∧ st = [] ∧ x = .inl (none, h)) ∨ (i = .ireturn ∧ ∃ y, st = [.int y] ∧ x = .inl (some (.int y), h)) ∨ (i = .lreturn ∧ ∃ y, st = [.long y] ∧ x = .inl (some (.long y), h)) ∨ (i = .areturn ∧ ∃ v, st = [v] ∧ jm_isA v = true ∧ x = .inl (some v, h)) ∨ (i = .athrow ∧ ∃ a r V, st = .ref a :: r ∧ h.1 a = some (.inl (fa, V)) ∧ x = .inr (a, h)) := by
  cases i with
  | invokestatic x =>
    dsimp only [jm_ex] at he
    split at he
    · exact (jm_do_end he).elim
    · cases he
  | invokespecial x =>
    dsimp only [jm_ex] at he
    split at he
    · exact (jm_do_end he).elim
    · cases he
  | invokevirtual x =>
    dsimp only [jm_ex] at he
    split at he
    · exact (jm_do_end he).elim
    · cases he
  | invokeinterface x ct =>
    dsimp only [jm_ex] at he
    split at he
    · exact (jm_do_end he).elim
    · cases he
  | return_ =>
    dsimp only [jm_ex] at he
    split at he
    · cases he; exact Or.inl ⟨rfl, rfl, rfl⟩
    · cases he
  | ireturn =>
    dsimp only [jm_ex] at he
    split at he
    · cases he; exact Or.inr (Or.inl ⟨rfl, _, rfl, rfl⟩)
    · cases he
  | lreturn =>
    dsimp only [jm_ex] at he
    split at he
    · cases he; exact Or.inr (Or.inr (Or.inl ⟨rfl, _, rfl, rfl⟩))
    · cases he
  | areturn =>
    dsimp only [jm_ex] at he
    split at he
    · split at he
      · rename_i hv
        cases he; exact Or.inr (Or.inr (Or.inr (Or.inl ⟨rfl, _, rfl, hv, rfl⟩)))
      · cases he
    · cases he
  | athrow =>
    dsimp only [jm_ex] at he
    split at he
    · split at he
      · split at he
        · rename_i o ho hf
          cases he
          refine Or.inr (Or.inr (Or.inr (Or.inr ⟨rfl, _, _, o.2, rfl, ?_, rfl⟩)))
          rw [ho, ← hf]
        · cases he
      · cases he
    · cases he
  | if_acmp ac o => exact absurd he (by cases ac <;> simp only [jm_ex, jm_cbr, jm_nx] <;> (repeat' split) <;> simp)
  | _ => exact absurd he (by simp only [jm_ex, jm_nx, jm_br, jm_cbr, jm_push, jm_fnx, jm_ld, jm_sto, jm_stoJ, jm_int1, jm_int2, jm_lng2] <;> (repeat' split) <;> simp)
