set_option maxRecDepth 100000
/-! ===== the pure machine without fuel: its limit, and the step's equation ===== -/
theorem gx_run_mono : ∀ (n : Nat) (Y : gx_Y) (pc : Nat) (ls st : List Value) (S : gx_S) (r : gx_R) (m : Nat), gx_run n Y pc ls st S = some r → n ≤ m → gx_run m Y pc ls st S = some r
  | 0, _, _, _, _, _, _, _, h, _ => by cases h
  | n + 1, Y, pc, ls, st, S, r, 0, h, hm => absurd hm (by omega)
  | n + 1, Y, pc, ls, st, S, r, m + 1, h, hm => by
    have hm' : n ≤ m := by omega
    unfold gx_run at h ⊢
    split at h
    · cases h
    · exact gx_run_mono n _ _ _ _ _ _ m h hm'
    · exact h
    · rename_i e9
      split at h
      · cases h
      · rename_i e8
        rw [gx_run_mono n _ _ _ _ _ _ m e8 hm']
        dsimp only
        split at h
        · rename_i e7
          exact gx_run_mono n _ _ _ _ _ _ m h hm'
        · cases h
      · rename_i e8
        rw [gx_run_mono n _ _ _ _ _ _ m e8 hm']
        dsimp only
        split at h
        · cases h
        · rename_i e7
          exact h
        · rename_i e7
          exact gx_run_mono n _ _ _ _ _ _ m h hm'
    · rename_i e9
      split at h
      · cases h
      · rename_i e7
        exact h
      · rename_i e7
        exact gx_run_mono n _ _ _ _ _ _ m h hm'
/-- what the pure machine comes to -/
noncomputable def gx_F (Y : gx_Y) (pc : Nat) (ls st : List Value) (S : gx_S) : Option gx_R :=
  @dite _ (∃ r n, gx_run n Y pc ls st S = some r) (Classical.propDecidable _) (fun h => some (Classical.choose h)) (fun _ => none)
theorem gx_F_of {n : Nat} {Y : gx_Y} {pc : Nat} {ls st : List Value} {S : gx_S} {r : gx_R} (h : gx_run n Y pc ls st S = some r) : gx_F Y pc ls st S = some r := by
  have hx : ∃ r n, gx_run n Y pc ls st S = some r := ⟨r, n, h⟩
  unfold gx_F
  rw [dif_pos hx]
  obtain ⟨k, hk⟩ := Classical.choose_spec hx
  have h1 := gx_run_mono _ _ _ _ _ _ _ (max n k) h (Nat.le_max_left _ _)
  have h2 := gx_run_mono _ _ _ _ _ _ _ (max n k) hk (Nat.le_max_right _ _)
  rw [h1] at h2
  exact h2.symm
theorem gx_F_some {Y : gx_Y} {pc : Nat} {ls st : List Value} {S : gx_S} {r : gx_R} (h : gx_F Y pc ls st S = some r) : ∃ n, gx_run n Y pc ls st S = some r := by
  by_cases hx : ∃ r n, gx_run n Y pc ls st S = some r
  · obtain ⟨r', n, hn⟩ := hx
    rw [gx_F_of hn] at h
    cases h
    exact ⟨n, hn⟩
  · unfold gx_F at h
    rw [dif_neg hx] at h
    cases h
theorem gx_F_ext {Y Y' : gx_Y} {pc pc' : Nat} {ls st ls' st' : List Value} {S S' : gx_S} (h : ∀ r, (∃ n, gx_run n Y pc ls st S = some r) ↔ (∃ n, gx_run n Y' pc' ls' st' S' = some r)) : gx_F Y pc ls st S = gx_F Y' pc' ls' st' S' := by
  cases h1 : gx_F Y pc ls st S with
  | some r =>
    obtain ⟨n, hn⟩ := (h r).mp (gx_F_some h1)
    exact (gx_F_of hn).symm
  | none =>
    cases h2 : gx_F Y' pc' ls' st' S' with
    | none => rfl
    | some r =>
      obtain ⟨n, hn⟩ := (h r).mpr (gx_F_some h2)
      rw [gx_F_of hn] at h1
      cases h1
/-- what is thrown at pc: q -/
noncomputable def gx_Tw (Y : gx_Y) (pc : Nat) (ls : List Value) (q : Nat) (S : gx_S) : Option gx_R := match gx_hdY Y (gx_tag S q) pc with
  | none => none
  | some none => some (.inr q, S)
  | some (some h) => gx_F Y h ls [.ref q] S
/-- behind a call of Y' that came to r -/
noncomputable def gx_C (Y Y' : gx_Y) (pc npc : Nat) (ls st : List Value) (r : Option gx_R) : Option gx_R := match r with
  | none => none
  | some (.inl v, S') => match gx_ret Y' v with
    | some vs => gx_F Y npc ls (vs ++ st) S'
    | none => none
  | some (.inr q, S') => gx_Tw Y pc ls q S'
theorem gx_F_go {Y : gx_Y} {pc pc' : Nat} {ls st ls' st' : List Value} {S S' : gx_S} (h : gx_step Y pc ls st S = some (.inl (pc', ls', st', S'))) : gx_F Y pc ls st S = gx_F Y pc' ls' st' S' := by
  refine gx_F_ext fun r => ⟨fun ⟨n, hn⟩ => ?_, fun ⟨n, hn⟩ => ⟨n + 1, ?_⟩⟩
  · cases n with
    | zero => cases hn
    | succ n =>
      unfold gx_run at hn
      rw [h] at hn
      exact ⟨n, hn⟩
  · unfold gx_run
    rw [h]
    exact hn
theorem gx_F_done {Y : gx_Y} {pc : Nat} {ls st : List Value} {S : gx_S} {r : gx_R} (h : gx_step Y pc ls st S = some (.inr (.inl r))) : gx_F Y pc ls st S = some r := by
  refine gx_F_of (n := 1) ?_
  unfold gx_run
  rw [h]
theorem gx_F_thr {Y : gx_Y} {pc : Nat} {ls st : List Value} {S S' : gx_S} {q : Nat} (h : gx_step Y pc ls st S = some (.inr (.inr (.inr (q, S'))))) : gx_F Y pc ls st S = gx_Tw Y pc ls q S' := by
  unfold gx_Tw
  cases ho : gx_hdY Y (gx_tag S' q) pc with
  | none =>
    dsimp only
    cases h1 : gx_F Y pc ls st S with
    | none => rfl
    | some r =>
      obtain ⟨n, hn⟩ := gx_F_some h1
      cases n with
      | zero => cases hn
      | succ n =>
        unfold gx_run at hn
        rw [h] at hn
        dsimp only at hn
        rw [ho] at hn
        cases hn
  | some o =>
    cases o with
    | none =>
      refine gx_F_of (n := 1) ?_
      unfold gx_run
      rw [h]
      dsimp only
      rw [ho]
    | some hh =>
      dsimp only
      refine gx_F_ext fun r => ⟨fun ⟨n, hn⟩ => ?_, fun ⟨n, hn⟩ => ⟨n + 1, ?_⟩⟩
      · cases n with
        | zero => cases hn
        | succ n =>
          unfold gx_run at hn
          rw [h] at hn
          dsimp only at hn
          rw [ho] at hn
          exact ⟨n, hn⟩
      · unfold gx_run
        rw [h]
        dsimp only
        rw [ho]
        exact hn
theorem gx_C_some {Y Y' : gx_Y} {pc npc n : Nat} {ls st : List Value} {o : gx_R} {r : gx_R} (h : gx_C Y Y' pc npc ls st (some o) = some r) : ∃ k, (match o with
    | (.inl v, S') => match gx_ret Y' v with
      | some vs => gx_run k Y npc ls (vs ++ st) S'
      | none => none
    | (.inr q, S') => match gx_hdY Y (gx_tag S' q) pc with
      | none => none
      | some none => some (.inr q, S')
      | some (some h) => gx_run k Y h ls [.ref q] S') = some r := by
  obtain ⟨o, S'⟩ := o
  cases o with
  | inl v =>
    dsimp only [gx_C] at h ⊢
    cases hv : gx_ret Y' v with
    | none => rw [hv] at h; cases h
    | some vs =>
      rw [hv] at h
      exact gx_F_some h
  | inr q =>
    dsimp only [gx_C, gx_Tw] at h ⊢
    cases ho : gx_hdY Y (gx_tag S' q) pc with
    | none => rw [ho] at h; cases h
    | some o =>
      rw [ho] at h
      cases o with
      | none => exact ⟨0, h⟩
      | some hh => exact gx_F_some h
theorem gx_F_call {Y Y' : gx_Y} {pc npc : Nat} {ls st as ls' st' : List Value} {S S' : gx_S} (h : gx_step Y pc ls st S = some (.inr (.inr (.inl (Y', as, S', npc, ls', st'))))) : gx_F Y pc ls st S = gx_C Y Y' pc npc ls' st' (gx_F Y' 0 (gx_ent Y' as) [] S') := by
  have hn1 : ∀ n, gx_run (n + 1) Y pc ls st S = (match gx_run n Y' 0 (gx_ent Y' as) [] S' with
      | none => none
      | some (.inl v, S') => match gx_ret Y' v with
        | some vs => gx_run n Y npc ls' (vs ++ st') S'
        | none => none
      | some (.inr q, S') => match gx_hdY Y (gx_tag S' q) pc with
        | none => none
        | some none => some (.inr q, S')
        | some (some h) => gx_run n Y h ls' [.ref q] S') := fun n => by
    conv => lhs; unfold gx_run
    rw [h]
    rfl
  cases h1 : gx_F Y pc ls st S with
  | some r =>
    obtain ⟨n, hn⟩ := gx_F_some h1
    cases n with
    | zero => cases hn
    | succ n =>
      rw [hn1] at hn
      cases h2 : gx_run n Y' 0 (gx_ent Y' as) [] S' with
      | none => rw [h2] at hn; cases hn
      | some o =>
        rw [h2] at hn
        rw [gx_F_of h2]
        obtain ⟨o, S2⟩ := o
        cases o with
        | inl v =>
          dsimp only [gx_C] at hn ⊢
          cases hv : gx_ret Y' v with
          | none => rw [hv] at hn; cases hn
          | some vs =>
            rw [hv] at hn
            exact (gx_F_of hn).symm
        | inr q =>
          dsimp only [gx_C, gx_Tw] at hn ⊢
          cases ho : gx_hdY Y (gx_tag S2 q) pc with
          | none => rw [ho] at hn; cases hn
          | some o =>
            rw [ho] at hn
            cases o with
            | none => exact hn.symm
            | some hh => exact (gx_F_of hn).symm
  | none =>
    cases h2 : gx_F Y' 0 (gx_ent Y' as) [] S' with
    | none => rfl
    | some o =>
      cases h3 : gx_C Y Y' pc npc ls' st' (some o) with
      | none => rfl
      | some r =>
        obtain ⟨n, hn⟩ := gx_F_some h2
        obtain ⟨k, hk⟩ := gx_C_some (n := 0) h3
        have hm := gx_run_mono _ _ _ _ _ _ _ (max n k) hn (Nat.le_max_left _ _)
        have hrun : gx_run (max n k + 1) Y pc ls st S = some r := by
          rw [hn1, hm]
          obtain ⟨o, S2⟩ := o
          cases o with
          | inl v =>
            dsimp only at hk ⊢
            cases hv : gx_ret Y' v with
            | none => rw [hv] at hk; cases hk
            | some vs =>
              rw [hv] at hk
              exact gx_run_mono _ _ _ _ _ _ _ _ hk (Nat.le_max_right _ _)
          | inr q =>
            dsimp only at hk ⊢
            cases ho : gx_hdY Y (gx_tag S2 q) pc with
            | none => rw [ho] at hk; cases hk
            | some o =>
              rw [ho] at hk
              cases o with
              | none => exact hk
              | some hh => exact gx_run_mono _ _ _ _ _ _ _ _ hk (Nat.le_max_right _ _)
        rw [gx_F_of hrun] at h1
        cases h1
theorem gx_step_of {Y : gx_Y} {pc len : Nat} {ls st : List Value} {S : gx_S} {i : Instr} {a : gx_A} (h32 : st.length ≤ 32) (hd : decode (gx_cd Y) pc = .ok (i, len)) (h : gx_ins Y pc len ls st S i = some a) : gx_step Y pc ls st S = some a := by
  unfold gx_step
  rw [if_pos h32, hd]
  exact h
