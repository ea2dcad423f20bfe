set_option maxRecDepth 100000
/-! ===== what the Statement gives of the start: classes, constants, texts ===== -/
abbrev gx_gv : Cond := Jvm.Cond.and given_1 narrow_1
def gx_tm (i : Nat) : Term := .string "GallRegister$Reader" (gx_strs.getD i (0, "")).1
theorem gx_insta : ∀ ci, ci < 15 → ∃ n ∈ [gx_N ci, 6, 8], Cond.instantiable (gx_rname ci) n ∈ lw_tbl := by decide +kernel
set_option maxHeartbeats 4000000 in
theorem gx_ncs_in : ∀ q ∈ gx_ncs, Cond.not (.castable q.1 q.2) ∈ flatC gx_gv := by decide +kernel
theorem gx_AO_in : ∀ C ∈ (["GallRegister$Fading", "GallRegister$Slot", "java/lang/Object"] : List String), Cond.arrayOver (.object C) ∈ lw_tbl := by decide +kernel
theorem gx_ac_in : ∀ t, t < 37 → 32 ≤ t → Cond.arrayClass (gx_aty t) ∈ lw_tbl := by decide +kernel
theorem gx_sts_in : ∀ j, j < 10 → Cond.laysStatic (gx_st j).1 (gx_st j).2.1 (gx_st j).2.2.1 ∈ lw_tbl ∧ Cond.initialized (gx_st j).1 ∈ lw_tbl := by decide +kernel
theorem gx_str_in : ∀ i, i < 15 → Cond.stringRef "GallRegister$Reader" (gx_strs.getD i (0, "")).1 (gx_strs.getD i (0, "")).2 ∈ lw_tbl := by decide +kernel
set_option maxHeartbeats 4000000 in
theorem gx_tx1 : ∀ i, i < 15 → Cond.exactly (gx_tm i) "java/lang/String" ∈ flatC gx_gv := by decide +kernel
set_option maxHeartbeats 4000000 in
theorem gx_tx2 : ∀ i, i < 15 → Cond.eq (.field (gx_tm i) "java/lang/String" "coder" "B") (.int 0) ∈ flatC gx_gv := by decide +kernel
set_option maxHeartbeats 4000000 in
theorem gx_tx3 : ∀ i, i < 15 → Cond.arrayOf (.field (gx_tm i) "java/lang/String" "value" "[B") .byte ∈ flatC gx_gv := by decide +kernel
set_option maxHeartbeats 4000000 in
theorem gx_tx4 : ∀ i, i < 15 → Cond.eq (.length (.field (gx_tm i) "java/lang/String" "value" "[B")) (.int (Int32.ofNat (gx_slen.getD i 0))) ∈ flatC gx_gv := by decide +kernel
set_option maxHeartbeats 8000000 in
theorem gx_tx5 : ∀ i, i < 15 → ∀ j, j < gx_slen.getD i 0 → Cond.eq (.elem (.field (gx_tm i) "java/lang/String" "value" "[B") (.int (Int32.ofNat j))) (.int ((gx_sbyt.getD i []).getD j 0)) ∈ flatC gx_gv := by decide +kernel
def gx_f6 (c : Cond) : Option (Nat × Nat) := match c with
  | .not (.eq (.string o a) (.string o' b)) => if o = "GallRegister$Reader" ∧ o' = "GallRegister$Reader" then some (a, b) else none
  | _ => none
theorem gx_f6_some {c : Cond} {a b : Nat} (h : gx_f6 c = some (a, b)) : c = Cond.not (Cond.eq (.string "GallRegister$Reader" a) (.string "GallRegister$Reader" b)) := by
  unfold gx_f6 at h
  split at h
  · split at h
    · rename_i hh
      cases h
      rw [hh.1, hh.2]
    · cases h
  · cases h
def gx_p6 : List (Nat × Nat) := [(114, 115), (114, 123), (115, 123), (114, 127), (115, 127), (123, 127), (114, 175), (115, 175), (123, 175), (127, 175), (114, 138), (115, 138), (123, 138), (127, 138), (175, 138), (114, 142), (115, 142), (123, 142), (127, 142), (175, 142), (138, 142), (114, 146), (115, 146), (123, 146), (127, 146), (175, 146), (138, 146), (142, 146), (114, 183), (115, 183), (123, 183), (127, 183), (175, 183), (138, 183), (142, 183), (146, 183), (114, 147), (115, 147), (123, 147), (127, 147), (175, 147), (138, 147), (142, 147), (146, 147), (183, 147), (114, 187), (115, 187), (123, 187), (127, 187), (175, 187), (138, 187), (142, 187), (146, 187), (183, 187), (147, 187), (114, 160), (115, 160), (123, 160), (127, 160), (175, 160), (138, 160), (142, 160), (146, 160), (183, 160), (147, 160), (187, 160), (114, 165), (115, 165), (123, 165), (127, 165), (175, 165), (138, 165), (142, 165), (146, 165), (183, 165), (147, 165), (187, 165), (160, 165), (114, 170), (115, 170), (123, 170), (127, 170), (175, 170), (138, 170), (142, 170), (146, 170), (183, 170), (147, 170), (187, 170), (160, 170), (165, 170), (114, 174), (115, 174), (123, 174), (127, 174), (175, 174), (138, 174), (142, 174), (146, 174), (183, 174), (147, 174), (187, 174), (160, 174), (165, 174), (170, 174)]
set_option maxHeartbeats 4000000 in
theorem gx_p6_eq : (flatC gx_gv).filterMap gx_f6 = gx_p6 := by decide +kernel
def gx_sn (i : Nat) : Nat := (gx_strs.getD i (0, "")).1
theorem gx_p6_b : ((List.range 15).all fun i => (List.range 15).all fun j => decide (i = j) || decide ((gx_sn i, gx_sn j) ∈ gx_p6) || decide ((gx_sn j, gx_sn i) ∈ gx_p6)) = true := by decide +kernel
theorem gx_p6_all (i : Nat) (hi : i < 15) (j : Nat) (hj : j < 15) (hij : i ≠ j) : (gx_sn i, gx_sn j) ∈ gx_p6 ∨ (gx_sn j, gx_sn i) ∈ gx_p6 := by
  have h1 := List.all_eq_true.mp (List.all_eq_true.mp gx_p6_b i (List.mem_range.mpr hi)) j (List.mem_range.mpr hj)
  simp only [Bool.or_eq_true, decide_eq_true_eq] at h1
  rcases h1 with (h1 | h1) | h1
  · exact absurd h1 hij
  · exact Or.inl h1
  · exact Or.inr h1
theorem gx_tx6 : ∀ i, i < 15 → ∀ j, j < 15 → i ≠ j → Cond.not (Cond.eq (gx_tm i) (gx_tm j)) ∈ flatC gx_gv ∨ Cond.not (Cond.eq (gx_tm j) (gx_tm i)) ∈ flatC gx_gv := by
  intro i hi j hj hij
  have key : ∀ a b : Nat, (a, b) ∈ gx_p6 → Cond.not (Cond.eq (.string "GallRegister$Reader" a) (.string "GallRegister$Reader" b)) ∈ flatC gx_gv := fun a b h => by
    rw [← gx_p6_eq] at h
    obtain ⟨c, h1, h2⟩ := List.mem_filterMap.mp h
    rw [← gx_f6_some h2]
    exact h1
  exact (gx_p6_all i hi j hj hij).imp (key _ _) (key _ _)
def gx_tk (j : Nat) : Term := .static (gx_st j).1 (gx_st j).2.1 (gx_st j).2.2.1
set_option maxHeartbeats 4000000 in
theorem gx_tk1 : ∀ j, j < 5 → Cond.exactly (gx_tk j) "GallRegister$Token" ∈ flatC gx_gv := by decide +kernel
set_option maxHeartbeats 4000000 in
theorem gx_tk2 : ∀ i, i < 5 → ∀ j, j < 5 → i ≠ j → Cond.not (Cond.eq (gx_tk i) (gx_tk j)) ∈ flatC gx_gv ∨ Cond.not (Cond.eq (gx_tk j) (gx_tk i)) ∈ flatC gx_gv := by decide +kernel
theorem gx_tk3 : ∀ j, j < 9 → 6 ≤ j → Cond.isRef (gx_tk j) ∈ flatC gx_gv := by decide +kernel
theorem gx_tk4 : Cond.arrayOf (gx_tk 5) (.object "java/lang/Object") ∈ flatC gx_gv ∧ Cond.eq (.length (gx_tk 5)) (.int 0) ∈ flatC gx_gv ∧ Cond.eq (gx_tk 9) (.int 1) ∈ flatC gx_gv := by decide +kernel
theorem gx_choose {P : Nat → Nat → Prop} {n : Nat} (h : ∀ i, i < n → ∃ x, P i x) : ∃ f : Nat → Nat, ∀ i, i < n → P i (f i) := by
  have h0 : ∀ i, ∃ x, i < n → P i x := fun i => by
    by_cases hi : i < n
    · obtain ⟨x, hx⟩ := h i hi
      exact ⟨x, fun _ => hx⟩
    · exact ⟨0, fun z => absurd z hi⟩
  exact Classical.axiomOfChoice h0
theorem gx_refv {args : Array Value} {s : State} {t : Term} (h : (Cond.isRef t).before args s = true) : ∃ v, t.eval args s none [] s = some v ∧ (v = .null ∨ ∃ a, v = .ref a) := by
  obtain ⟨v, h1, h2⟩ := Cond.isRef_spec (args := args) (first := s) (o := none) (s := s) (idx := []) (t := t) h
  refine ⟨v, h1, ?_⟩
  cases v with
  | null => exact Or.inl rfl
  | ref a => exact Or.inr ⟨a, rfl⟩
  | _ => cases h2
/-- what lies outside, by number -/
def gx_ext (tk : Nat → Nat) (t5 : Nat) (v6 v7 v8 : Value) (adK adV : Nat → Nat) (b : Nat) (j : Nat) : Value :=
  if j < 5 then .ref (tk j) else if j = 5 then .ref t5 else if j = 6 then v6 else if j = 7 then v7 else if j = 8 then v8 else if 16 ≤ j ∧ j < 31 then .ref (adK (j - 16)) else if 48 ≤ j ∧ j < 63 then .ref (adV (j - 48)) else if j = 64 then .ref b else .null
theorem gx_start {args : Array Value} {s : State} (hts : ∀ w ∈ lw_tbl, w.before args s = true) (hgv : gx_gv.before args s = true) (b : Nat) : ∃ (D : va_G) (dT : Nat → ClassId) (ext : Nat → Value), D.2 1001 0 = 0 ∧ ext 64 = .ref b ∧ gx_En D dT ext (fun q => s.heap.size ≤ q) s s.heap := by
  have hg := flat_of_before _ hgv
  have hA : ∀ a : Nat, a < s.heap.size → ¬ (s.heap.size ≤ a) := fun a ha => by omega
  -- classes
  have hkn : ∀ ci : Nat, ∃ q : ClassId × (Nat → Nat), ci < 15 → u_Kn s (gx_rname ci) (gx_T ci) (gx_N ci) q.1 q.2 := fun ci => by
    by_cases h : ci < 15
    · obtain ⟨n, -, hi⟩ := gx_insta ci h
      obtain ⟨cC, iS, hk⟩ := u_known (T := gx_T ci) (N := gx_N ci) hts (fun w hw => lw_all_tbl (gx_in_cl h w hw)) (hts _ hi)
      exact ⟨(cC, iS), fun _ => hk⟩
    · exact ⟨(0, fun _ => 0), fun z => absurd z h⟩
  obtain ⟨K, hK⟩ := Classical.axiomOfChoice hkn
  -- arrays
  have har : ∀ t : Nat, ∃ cA : ClassId, t < 8 → ArrOfT s cA (gx_aty (t + 32)) ∧ va_RA s cA (gx_aty (t + 32)) := fun t => by
    by_cases h : t < 8
    · by_cases h5 : t < 5
      · obtain ⟨cA, kA, comp, e1, e2, e3⟩ := Cond.arrayClass_spec (args := args) (first := s) (o := none) (s := s) (idx := []) (hts _ (gx_ac_in (t + 32) (by omega) (by omega)))
        refine ⟨cA, fun _ => ⟨fun N z => ⟨(fun k h => by cases h), kA, e2, comp, e3⟩, ?_⟩⟩
        have ht : t = 0 ∨ t = 1 ∨ t = 2 ∨ t = 3 ∨ t = 4 := by omega
        rcases ht with rfl | rfl | rfl | rfl | rfl <;> exact e1
      · have ht : t = 5 ∨ t = 6 ∨ t = 7 := by omega
        have key : ∀ C ∈ (["GallRegister$Fading", "GallRegister$Slot", "java/lang/Object"] : List String), ∃ cA : ClassId, ArrOfT s cA (.object C) ∧ va_RA s cA (.object C) := fun C hC => by
          obtain ⟨comp, cA, kA, e1, -, e2, e3, e4⟩ := Cond.arrayOver_spec (args := args) (first := s) (o := none) (s := s) (idx := []) (hts _ (gx_AO_in C hC))
          exact ⟨cA, fun N z => ⟨(fun k h => by cases h), kA, e2, comp, e3⟩, kA, comp, e2, e3, e1, e4⟩
        rcases ht with rfl | rfl | rfl
        · obtain ⟨cA, h1⟩ := key "GallRegister$Fading" (by decide)
          exact ⟨cA, fun _ => h1⟩
        · obtain ⟨cA, h1⟩ := key "GallRegister$Slot" (by decide)
          exact ⟨cA, fun _ => h1⟩
        · obtain ⟨cA, h1⟩ := key "java/lang/Object" (by decide)
          exact ⟨cA, fun _ => h1⟩
    · exact ⟨0, fun z => absurd z h⟩
  obtain ⟨Ta, hTa⟩ := Classical.axiomOfChoice har
  -- constants
  obtain ⟨tk, htk⟩ := gx_choose (P := fun j x => (gx_tk j).eval args s none [] s = some (.ref x)) (n := 5) fun j hj => by
    obtain ⟨a, c, cA, kA, q1, -⟩ := Cond.exactly_spec (args := args) (first := s) (o := none) (s := s) (idx := []) (t := gx_tk j) (cls := "GallRegister$Token") (hg _ (gx_tk1 j hj))
    exact ⟨a, q1⟩
  obtain ⟨t5, ht5, hT5⟩ := va_Tof (tm := gx_tk 5) (N := 0) (f := fun _ => .null) (A := fun q => s.heap.size ≤ q) (by decide) (hg _ gx_tk4.1) (va_eqt (hg _ gx_tk4.2.1)) (fun j hj => absurd hj (Nat.not_lt_zero j)) hA
  obtain ⟨v6, hv6, hr6⟩ := gx_refv (hg _ (gx_tk3 6 (by decide) (by decide)))
  obtain ⟨v7, hv7, hr7⟩ := gx_refv (hg _ (gx_tk3 7 (by decide) (by decide)))
  obtain ⟨v8, hv8, hr8⟩ := gx_refv (hg _ (gx_tk3 8 (by decide) (by decide)))
  have hv9 := va_eqt (hg _ gx_tk4.2.2)
  obtain ⟨adK, adV, hS, hev⟩ := vk_Sof (tm := gx_tm) (N := 15) (len := gx_slen) (byt := gx_sbyt) (A := fun q => s.heap.size ≤ q) (by decide) (fun i hi => hg _ (gx_tx1 i hi)) (fun i hi => hg _ (gx_tx2 i hi)) (fun i hi => hg _ (gx_tx3 i hi)) (fun i hi => hg _ (gx_tx4 i hi)) (fun i hi j hj => hg _ (gx_tx5 i hi j hj)) (fun i j hi hj hij => (gx_tx6 i hi j hj hij).imp (hg _) (hg _)) hA
  have e64 : ∀ i, i < 15 → gx_ext tk t5 v6 v7 v8 adK adV b (16 + i) = .ref (adK i) ∧ gx_ext tk t5 v6 v7 v8 adK adV b (48 + i) = .ref (adV i) := fun i hi => by
    constructor
    · unfold gx_ext
      rw [if_neg (by omega), if_neg (by omega), if_neg (by omega), if_neg (by omega), if_neg (by omega), if_pos (by omega), Nat.add_sub_cancel_left]
    · unfold gx_ext
      rw [if_neg (by omega), if_neg (by omega), if_neg (by omega), if_neg (by omega), if_neg (by omega), if_neg (by omega), if_pos (by omega), Nat.add_sub_cancel_left]
  have heok : gx_eok (gx_ext tk t5 v6 v7 v8 adK adV b) := fun j => by
    unfold gx_ext
    split
    · exact Or.inr ⟨_, rfl⟩
    split
    · exact Or.inr ⟨_, rfl⟩
    split
    · exact hr6
    split
    · exact hr7
    split
    · exact hr8
    split
    · exact Or.inr ⟨_, rfl⟩
    split
    · exact Or.inr ⟨_, rfl⟩
    split
    · exact Or.inr ⟨_, rfl⟩
    · exact Or.inl rfl
  have hsz : ∀ {C n d : String} {x : Nat}, (Term.static C n d).eval args s none [] s = some (.ref x) → (Cond.exactly (.static C n d) "GallRegister$Token").before args s = true → x < s.heap.size := fun h1 h2 => by
    obtain ⟨cell, c1, -⟩ := va_Oof (A := fun q => s.heap.size ≤ q) h2 h1 hA
    exact (Array.getElem?_eq_some_iff.mp c1).1
  have hlt5 : t5 < s.heap.size := by
    obtain ⟨cell, c1, -⟩ := hT5
    exact (Array.getElem?_eq_some_iff.mp c1).1
  refine ⟨(fun c => (K c).1, fun c => if c = 1001 then fun _ => 0 else (K c).2), fun t => Ta (t - 32), gx_ext tk t5 v6 v7 v8 adK adV b, rfl, rfl, ⟨fun c q hc => ?_, fun k q hk => ?_⟩, fun w hw => va_Nw.of (gx_nest_on w hw) (hts _ (gx_nest_tbl w hw)), fun q hq => va_Nc.of (hg _ (gx_ncs_in q hq)), fun C hC => va_AO.of (hts _ (gx_AO_in C hC)), fun j hj => ?_, ⟨adK, adV, hS, fun i hi => ⟨(e64 i hi).1, (e64 i hi).2, vk_R.of (hts _ (gx_str_in i hi)) (hev i hi)⟩⟩, ⟨t5, _, rfl, hT5⟩, ⟨fun j hj => ?_, fun i j hi hj hij => ?_⟩, ⟨vx_Zqof (hts _ (gx_sts_in 6 (by decide)).1) (hts _ (gx_sts_in 6 (by decide)).2) (hg _ (gx_tk3 6 (by decide) (by decide))) hA, vx_Zqof (hts _ (gx_sts_in 7 (by decide)).1) (hts _ (gx_sts_in 7 (by decide)).2) (hg _ (gx_tk3 7 (by decide) (by decide))) hA⟩, heok⟩
  · have hc15 := gx_cl_lt hc
    have hk := hK c hc15
    rw [gx_cl_at hc15] at hc
    cases hc
    show u_Kn s _ _ _ _ (if c = 1001 then fun _ => 0 else (K c).2)
    rw [if_neg (by omega)]
    exact hk
  · unfold gx_tys at hk
    rw [List.getElem?_map] at hk
    cases h8 : (List.range 8)[k]? with
    | none => rw [h8] at hk; cases hk
    | some t =>
      rw [h8] at hk
      cases hk
      have ht : t < 8 := List.mem_range.mp (List.mem_of_getElem? h8)
      have := hTa t ht
      have e9 : t + 32 - 32 = t := by omega
      show ArrOfT s (Ta (t + 32 - 32)) _ ∧ va_RA s (Ta (t + 32 - 32)) _
      rw [e9]
      exact this
  · obtain ⟨l1, l2⟩ := gx_sts_in j hj
    have hz : ∀ v, (gx_tk j).eval args s none [] s = some v → gx_cv (fun _ => 0) (gx_ext tk t5 v6 v7 v8 adK adV b) (gx_st j).2.2.2 = v → va_Z (gx_st j).1 (gx_st j).2.1 (gx_st j).2.2.1 (gx_cv (fun _ => 0) (gx_ext tk t5 v6 v7 v8 adK adV b) (gx_st j).2.2.2) (fun q => s.heap.size ≤ q) s s.heap := fun v h1 h2 => by
      rw [h2]
      exact va_Zof (hts _ l1) (hts _ l2) h1 hA
    have hj' : j = 0 ∨ j = 1 ∨ j = 2 ∨ j = 3 ∨ j = 4 ∨ j = 5 ∨ j = 6 ∨ j = 7 ∨ j = 8 ∨ j = 9 := by omega
    rcases hj' with rfl | rfl | rfl | rfl | rfl | rfl | rfl | rfl | rfl | rfl
    · exact hz _ (htk 0 (by decide)) rfl
    · exact hz _ (htk 1 (by decide)) rfl
    · exact hz _ (htk 2 (by decide)) rfl
    · exact hz _ (htk 3 (by decide)) rfl
    · exact hz _ (htk 4 (by decide)) rfl
    · exact hz _ ht5 rfl
    · exact hz _ hv6 rfl
    · exact hz _ hv7 rfl
    · exact hz _ hv8 rfl
    · exact hz _ hv9 rfl
  · by_cases h5 : j < 5
    · refine ⟨tk j, if_pos h5, ?_⟩
      have := hsz (htk j h5) (hg _ (gx_tk1 j h5))
      omega
    · have : j = 5 := by omega
      subst this
      exact ⟨t5, rfl, by omega⟩
  · by_cases hne : i = j
    · exact hne
    · have e1 : gx_ext tk t5 v6 v7 v8 adK adV b i = .ref (tk i) := if_pos hi
      have e2 : gx_ext tk t5 v6 v7 v8 adK adV b j = .ref (tk j) := if_pos hj
      rw [e1, e2] at hij
      have hab : tk i = tk j := Value.ref.inj hij
      rcases gx_tk2 i hi j hj hne with h | h
      · exact absurd hab (va_neR (hg _ h) (htk i hi) (htk j hj))
      · exact absurd hab.symm (va_neR (hg _ h) (htk j hj) (htk i hi))
