set_option maxRecDepth 100000
/-! ===== the pure machine's run is the machine's: soundness ===== -/
theorem gx_step_some {Y : gx_Y} {pc : Nat} {ls st : List Value} {S : gx_S} {a : gx_A} (h : gx_step Y pc ls st S = some a) : st.length ≤ 32 ∧ ∃ i len, decode (gx_cd Y) pc = .ok (i, len) ∧ gx_ins Y pc len ls st S i = some a := by
  unfold gx_step at h
  split at h
  · rename_i h1
    split at h
    · rename_i i len hd
      exact ⟨h1, i, len, hd, h⟩
    · cases h
  · cases h
theorem gx_ret_list {Y : gx_Y} {v : Option Value} {vs : List Value} (h : gx_ret Y v = some vs) : vs = v.toList := by
  unfold gx_ret at h
  split at h
  all_goals first | (cases h; rfl) | (split at h; (cases h; rfl); cases h) | cases h
/-! the table of handlers -/
def gx_hdS (oc tg pc : Nat) (hh : List (Nat × Nat × Nat × Nat)) (o : Option Nat) : Prop :=
  match o with
  | none => ∀ z ∈ tableOf hh, covers z pc = false ∨ (z.catchType ≠ 0 ∧ ∃ e ∈ gx_hT oc, e.1 = z.catchType ∧ e.2.1 = tg ∧ e.2.2 = 0)
  | some h => ∃ (pre : List ExceptionTableEntry) (x : ExceptionTableEntry) (suf : List ExceptionTableEntry), tableOf hh = pre ++ x :: suf ∧ (∀ z ∈ pre, covers z pc = false ∨ (z.catchType ≠ 0 ∧ ∃ e ∈ gx_hT oc, e.1 = z.catchType ∧ e.2.1 = tg ∧ e.2.2 = 0)) ∧ covers x pc = true ∧ x.catchType ≠ 0 ∧ x.handlerPc = h ∧ ∃ e ∈ gx_hT oc, e.1 = x.catchType ∧ e.2.1 = tg ∧ e.2.2 ≠ 0
theorem gx_hd_spec {oc tg pc : Nat} : ∀ (hh : List (Nat × Nat × Nat × Nat)) (o : Option Nat), gx_hd oc tg pc hh = some o →
    gx_hdS oc tg pc hh o
  | [], o, h => by
    cases h
    intro z hz
    cases hz
  | (s, e, h0, ct) :: hh, o, h => by
    unfold gx_hd at h
    have key : (gx_hd oc tg pc hh = some o) → (covers (⟨s, e, h0, ct⟩ : ExceptionTableEntry) pc = false ∨ (ct ≠ 0 ∧ ∃ q ∈ gx_hT oc, q.1 = ct ∧ q.2.1 = tg ∧ q.2.2 = 0)) → gx_hdS oc tg pc ((s, e, h0, ct) :: hh) o := by
      intro hr hz
      have ih := gx_hd_spec hh o hr
      cases o with
      | none =>
        intro z hz9
        rcases List.mem_cons.mp hz9 with rfl | hz9
        · exact hz
        · exact ih z hz9
      | some h9 =>
        obtain ⟨pre, x, suf, i1, i2, i3⟩ := ih
        refine ⟨⟨s, e, h0, ct⟩ :: pre, x, suf, ?_, ?_, i3⟩
        · show _ :: tableOf hh = _
          rw [i1]
          rfl
        · intro z hz9
          rcases List.mem_cons.mp hz9 with rfl | hz9
          · exact hz
          · exact i2 z hz9
    split at h
    · rename_i hc
      split at h
      · cases h
      · rename_i hct
        split at h
        · rename_i z hz
          obtain ⟨z1, z2⟩ := gx_find_in hz
          have z3 : z.1 = ct ∧ z.2.1 = tg := by simpa using z2
          split at h
          · rename_i h0'
            exact key h (Or.inr ⟨hct, z, z1, z3.1, z3.2, h0'⟩)
          · rename_i h0'
            cases h
            exact ⟨[], ⟨s, e, h0, ct⟩, tableOf hh, rfl, (fun _ h => nomatch h), (by simp [covers, hc.1, hc.2]), hct, rfl, z, z1, z3.1, z3.2, h0'⟩
        · cases h
    · rename_i hc
      exact key h (Or.inl (by
        simp only [covers]
        simp only [Bool.and_eq_false_iff, decide_eq_false_iff_not]
        omega))
section GXSD
variable {p : Program} {l : Launch} {e : Env} {R : Room} {s : State} {m : MethodId} {args : Array Value} {below : List Frame} {meth : Method} {c : Code} {Q : State → Prop} {Y : gx_Y} {D : va_G} {dT : Nat → ClassId} {ext : Nat → Value} {A : Nat → Prop} {c0 s0 : Nat}
variable {pc : Nat} {ls : List Value} {S : gx_S} {q : Nat} {r : gx_R}
theorem gx_hT_tag {oc : Nat} (hE : gx_En D dT ext A s s.heap) (hts : ∀ w ∈ lw_all, w.before args s = true) {e9 : Nat × Nat × Nat} (h : e9 ∈ gx_hT oc) (h0 : e9.2.2 = 0) : ∃ nm : String, (Cond.classLink (gx_cname oc) e9.1 nm).before args s = true ∧ va_Nc (gx_rname e9.2.1) nm s := by
  have hok := gx_hT_ok oc _ h
  obtain ⟨a, b, k⟩ := e9
  dsimp only at h0
  subst h0
  obtain ⟨C, h1, h2⟩ := hok
  exact ⟨C, hts _ h1, hE.2.2.1 _ h2⟩
theorem gx_hT_yes {oc : Nat} (hE : gx_En D dT ext A s s.heap) (hts : ∀ w ∈ lw_all, w.before args s = true) {e9 : Nat × Nat × Nat} (h : e9 ∈ gx_hT oc) (h0 : e9.2.2 ≠ 0) : ∃ nm : String, (Cond.classLink (gx_cname oc) e9.1 nm).before args s = true ∧ (Cond.castable (gx_rname e9.2.1) nm).before args s = true := by
  have hok := gx_hT_ok oc _ h
  obtain ⟨a, b, k⟩ := e9
  dsimp only at h0
  cases k with
  | zero => exact absurd rfl h0
  | succ k =>
    obtain ⟨C, h1, h2⟩ := hok
    exact ⟨C, hts _ h1, (hE.2.1 _ h2).use (gx_nest_on _ h2)⟩
/-- something is thrown at pc: to a handler of this method, or out of it -/
theorem gx_hdX (hF : gx_Fr p l R s m args meth c Y D dT ext A) {o : Option Nat} (ho9 : gx_hdY Y (gx_tag S q) pc = some o) (hq : gx_c0 S (.ref q)) (h1 : o = none → r = (.inr q, S)) (h2 : ∀ h, o = some h → gx_K p l e R s m args below meth c (gx_MQ below D dT ext A r args s c0 s0) Y D dT ext A c0 s0 h ls [.ref q] S) : gx_X p l e R s m args below meth c (gx_MQ below D dT ext A r args s c0 s0) Y D dT ext A c0 s0 pc ls q S := by
  obtain ⟨hx, hb, hml, hown, hts, hE, hA, hlocks, -, htab, -⟩ := hF
  have ho : gx_sk Y = 0 ∧ gx_hd (gx_oc Y) (gx_tag S q) pc (gx_hh Y) = some o := by
    unfold gx_hdY at ho9
    split at ho9
    · cases ho9
    · exact ⟨by omega, ho9⟩
  have htab := htab ho.1
  have hspec := gx_hd_spec _ _ ho.2
  intro ad H locs lsA rest hW hS hL hls ht
  obtain ⟨cell, q1, q2, q3, -⟩ := gx_cls_at hW hE.1 ht
  cases o with
  | none =>
    have hr := h1 rfl
    subst hr
    refine vx_outP hown hlocks (E := gx_rname (gx_tag S q)) (fun z hz => ?_) q1 q2 q3 (fun t ht' _ => ⟨q, ad, rfl, ht, rfl, rfl, by rw [ht']; exact hW, hS.F ht'⟩) (fun z hz => hS.2.2 z hz) (Nat.le_refl _) (Nat.le_refl _)
    rw [htab] at hz
    rcases hspec z hz with h | ⟨h3, e9, h4, h5, h6, h7⟩
    · exact Or.inl h
    · obtain ⟨nm, g1, g2⟩ := gx_hT_tag hE hts h4 h7
      rw [h5] at g1
      rw [h6] at g2
      exact Or.inr ⟨h3, nm, g1, g2⟩
  | some h =>
    obtain ⟨pre, x, suf, i1, i2, i3, i4, i5, e9, h4, h5, h6, h7⟩ := hspec
    obtain ⟨nm, g1, g2⟩ := gx_hT_yes hE hts h4 h7
    rw [h5] at g1
    rw [h6] at g2
    refine vx_catch hown pre x suf (htab.trans i1) (fun z hz => ?_) i3 i4 g1 g2 q1 q2 q3 ?_
    · rcases i2 z hz with h | ⟨h3, e8, h4, h5, h6, h7⟩
      · exact Or.inl h
      · obtain ⟨nm8, g1, g2⟩ := gx_hT_tag hE hts h4 h7
        rw [h5] at g1
        rw [h6] at g2
        exact Or.inr ⟨h3, nm8, g1, g2⟩
    · rw [i5]
      exact h2 h rfl ad H locs lsA hW hS hL hls (gx_cs_cons hq (fun _ h => nomatch h))
end GXSD
theorem gx_le_c0 {S S' : gx_S} (h : gx_n S ≤ gx_n S') {v : Value} (hv : gx_c0 S v) : gx_c0 S' v := fun b hb => Nat.lt_of_lt_of_le (hv b hb) h
theorem gx_tag_lt {S : gx_S} (hw : gx_wf S) {q : Nat} (h : gx_tag S q < 15) : gx_c0 S (.ref q) := fun b hb => by
  cases hb
  exact gx_lt_of_tag hw (by omega)
set_option maxHeartbeats 1000000 in
theorem gx_run_ok (hNT : gx_NT) : ∀ (n : Nat) (Y : gx_Y) (pc : Nat) (ls st : List Value) (S : gx_S) (r : gx_R), gx_run n Y pc ls st S = some r → gx_oc Y < 21 → gx_Gd Y pc ls st S r
  | 0, _, _, _, _, _, _, h, _ => by cases h
  | n + 1, Y, pc, ls, st, S, r, h, hokY => by
    intro p l e R s m args below meth c D dT ext A c0 s0 hF hrt hc hR
    have hoc : gx_oc Y < 21 := hokY
    have hm := gx_step_mo (S := S) (Y := Y) (pc := pc) (ls := ls) (st := st)
    have heok : gx_eok ext := gx_eok_of hF
    unfold gx_run at h
    split at h
    · cases h
    · rename_i pc' ls' st' S' e9
      obtain ⟨h32, i, len, hd, hi⟩ := gx_step_some e9
      have h1 : gx_le S S' := hm _ e9
      have h2 := gx_run_le n _ _ _ _ _ _ h
      exact gx_ins_go hF hoc hd hi hc ⟨by have := h2.2.1; omega, by have := h2.2.2; omega⟩ (gx_run_ok hNT n _ _ _ _ _ _ h hokY p l e R s m args below meth c D dT ext A c0 s0 hF hrt ⟨Nat.le_trans hc.1 h1.2.1, Nat.le_trans hc.2 h1.2.2⟩ hR)
    · rename_i r9 e9
      cases h
      obtain ⟨h32, i, len, hd, hi⟩ := gx_step_some e9
      exact gx_ins_done hF hrt hd hi
    · rename_i Y' as S1 npc ls' st' e9
      obtain ⟨h32, i, len, hd, hi⟩ := gx_step_some e9
      intro ad H locs lsA hW hS hL hls hst
      obtain ⟨rfl, rfl, rfl, c1, c2, c3, c4, c5, hCR⟩ := gx_ins_call hF hoc hd hst hi
      have hA := hF.2.2.2.2.2.2.1
      have hl := hF.2.2.2.2.2.2.2.2.2.2.1
      cases hr1 : gx_run n Y' 0 (gx_ent Y' as) [] S1 with
      | none => rw [hr1] at h; cases h
      | some r1 =>
        rw [hr1] at h
        have hle1 := gx_run_le n _ _ _ _ _ _ hr1
        have hG := gx_run_ok hNT n _ _ _ _ _ _ hr1 c1.2.2.2
        have hA' : ∀ q, H.size ≤ q → va_A (gx_ws dT ext ad S1) H.size q := fun q hq => Or.inr hq
        have hAA : ∀ q, H.size ≤ q → A q := fun q hq => hA q (Nat.le_trans hS.1 hq)
        have hsub : ∀ q, va_A (gx_ws dT ext ad S1) H.size q → A q := fun q hq => by
          rcases hq with ⟨k9, e9, h9⟩ | h9
          · exact hW.2.2.1.2 k9 (q, e9) h9
          · exact hAA q h9
        have hM := gx_met (l := l) (D := gx_Dk D (gx_n S1) ad) (dT := dT) (A := va_A (gx_ws dT ext ad S1) H.size) (sz := H.size) c1 c2 hG c3 hl hA' heok (ad := ad) c4
        have hle2 : gx_le r1.2 r.2 := by
          obtain ⟨o1, S2⟩ := r1
          cases o1 with
          | inl v =>
            dsimp only at h
            split at h
            · exact gx_run_le n _ _ _ _ _ _ h
            · cases h
          | inr k =>
            dsimp only at h
            split at h
            · cases h
            · cases h
              exact gx_le_refl _
            · exact gx_run_le n _ _ _ _ _ _ h
        have hPc : ∀ U : State, U.heap = H → s.WarmedH U.vm → gx_Pc (gx_Dk D (gx_n S1) ad) dT ext (va_A (gx_ws dT ext ad S1) H.size) H.size S1 ad as (as.map (gx_cv ad ext)).toArray U := fun U hU hWm => by
          refine ⟨rfl, by rw [hU], by rw [hU]; exact gx_Wd_in H.size hW, ?_⟩
          have := gx_En.call (s := s) (U := U) (H := U.heap) (A' := va_A (gx_ws dT ext ad S1) H.size) hF.2.2.2.2.2.1 hWm (fun a h1 h2 => by rw [hU]; exact hS.2.1 a h1 h2) hsub
          exact gx_En_D (D := D) (D' := gx_Dk D (gx_n S1) ad) rfl (fun _ hc => gx_Dk_lo hc) this
        have hrun := hCR ad H locs lsA (S1.1.2.2.2.1 - c0) (S1.1.2.2.2.2 - s0) (r1.2.1.2.2.2.1 - S1.1.2.2.2.1) (r1.2.1.2.2.2.2 - S1.1.2.2.2.2) _ _ _ _ hW hS hL.1 ⟨by have := hle1.2.1; have := hle2.2.1; omega, by have := hle1.2.2; have := hle2.2.2; omega⟩ gx_Pc_blind hPc hM
        have ec : S1.1.2.2.2.1 - c0 + (r1.2.1.2.2.2.1 - S1.1.2.2.2.1) = r1.2.1.2.2.2.1 - c0 := by have := hle1.2.1; omega
        have es : S1.1.2.2.2.2 - s0 + (r1.2.1.2.2.2.2 - S1.1.2.2.2.2) = r1.2.1.2.2.2.2 - s0 := by have := hle1.2.2; omega
        intro T hT X
        rcases hrun T hT X with ⟨v, st₀, t, T', L, h0, X', hLL, e1, e2, hq, hgo⟩ | ⟨q, st₀, t, T', L, E, ce, h0, X', hLL, e1, e2, hx, hce, hcv, hcl, hstp⟩
        · obtain ⟨v9, ad', hr9, ho, hc0, hWd, hFr⟩ := hq
          obtain ⟨k1, k2, k3⟩ := vx_keep (A0 := A) (A1 := va_A (gx_ws dT ext ad S1) H.size) h0 e1 hS (fun q _ hq => hsub q hq) hsub hLL hFr
          rw [← e1] at hWd
          obtain ⟨w1, w2, w3⟩ := gx_Wd_out hW hAA hWd
          have hv : v = v9.map (gx_cv ad' ext) := Outcome.returned.inj ho
          obtain ⟨o1, S2⟩ := r1
          dsimp only at hr9
          subst hr9
          dsimp only at h
          cases hrv : gx_ret Y' v9 with
          | none => rw [hrv] at h; cases h
          | some vs =>
            rw [hrv] at h
            have hvs := gx_ret_list hrv
            have hk := gx_run_ok hNT n _ _ _ _ _ _ h hokY p l e R s m args below meth c D dT ext A c0 s0 hF hrt ⟨Nat.le_trans hc.1 hle1.2.1, Nat.le_trans hc.2 hle1.2.2⟩ hR ad' T'.heap (locs ++ L) lsA w1 k3 (by rw [gx_lv_eq hls w2]; exact hL) (fun w hw => gx_le_c0 w3 (hls w hw)) (fun w hw => by
              rcases List.mem_append.mp hw with hw | hw
              · rw [hvs] at hw
                exact hc0 w (by cases v9 with | none => cases hw | some z => rw [List.mem_singleton.mp hw])
              · exact gx_le_c0 w3 (c5 w hw))
            rw [ec, es] at X'
            have hstk : (vs ++ st').map (gx_cv ad' ext) = v.toList ++ st'.map (gx_cv ad ext) := by
              rw [List.map_append, gx_map_eq c5 w2, hvs, hv]
              cases v9 <;> rfl
            rw [hstk] at hk
            obtain ⟨t9, a1, b1⟩ := hk T' rfl X'
            exact ⟨t9, hgo t9 a1, b1⟩
        · obtain ⟨k, ad', hr9, htg, hqk, hEk, hWd, hFr⟩ := hx
          obtain ⟨k1, k2, k3⟩ := vx_keep (A0 := A) (A1 := va_A (gx_ws dT ext ad S1) H.size) h0 e1 hS (fun q _ hq => hsub q hq) hsub hLL hFr
          rw [← e1] at hWd
          obtain ⟨w1, w2, w3⟩ := gx_Wd_out hW hAA hWd
          obtain ⟨o1, S2⟩ := r1
          dsimp only at hr9 htg
          subst hr9
          dsimp only at h
          have hX : gx_X p l e R s m args below meth c (gx_MQ below D dT ext A r args s c0 s0) Y D dT ext A c0 s0 pc ls' k S2 := by
            cases ho : gx_hdY Y (gx_tag S2 k) pc with
            | none => rw [ho] at h; cases h
            | some o =>
              rw [ho] at h
              refine gx_hdX hF ho (gx_tag_lt w1.1 htg) (fun hn => ?_) fun h9 hn => ?_
              · subst hn
                exact (Option.some.inj h).symm
              · subst hn
                exact gx_run_ok hNT n _ _ _ _ _ _ h hokY p l e R s m args below meth c D dT ext A c0 s0 hF hrt ⟨Nat.le_trans hc.1 hle1.2.1, Nat.le_trans hc.2 hle1.2.2⟩ hR
          rw [ec, es] at X'
          have hk := hX ad' T'.heap (locs ++ L) lsA (st'.map (gx_cv ad ext)) w1 k3 (by rw [gx_lv_eq hls w2]; exact hL) (fun w hw => gx_le_c0 w3 (hls w hw)) htg
          rw [← hqk] at hk
          obtain ⟨t9, a1, b1⟩ := hk T' rfl X'
          exact ⟨t9, hstp.trans a1, b1⟩
    · rename_i q S' e9
      obtain ⟨h32, i, len, hd, hi⟩ := gx_step_some e9
      have h1 : gx_le S S' := hm _ e9
      have hle2 : gx_le S' r.2 := by
        split at h
        · cases h
        · cases h
          exact gx_le_refl _
        · exact gx_run_le n _ _ _ _ _ _ h
      refine gx_ins_thr hNT hF hd h32 hi hc ⟨by have := hle2.2.1; omega, by have := hle2.2.2; omega⟩ ?_
      intro ad H locs lsA rest hW hS hL hls htg
      have hX : gx_X p l e R s m args below meth c (gx_MQ below D dT ext A r args s c0 s0) Y D dT ext A c0 s0 pc ls q S' := by
        cases ho : gx_hdY Y (gx_tag S' q) pc with
        | none => rw [ho] at h; cases h
        | some o =>
          rw [ho] at h
          refine gx_hdX hF ho (gx_tag_lt hW.1 htg) (fun hn => ?_) fun h9 hn => ?_
          · subst hn
            exact (Option.some.inj h).symm
          · subst hn
            exact gx_run_ok hNT n _ _ _ _ _ _ h hokY p l e R s m args below meth c D dT ext A c0 s0 hF hrt ⟨Nat.le_trans hc.1 h1.2.1, Nat.le_trans hc.2 h1.2.2⟩ hR
      exact hX ad H locs lsA rest hW hS hL hls htg
