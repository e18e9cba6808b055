/-! SPECS 37: the model's fault and all additions -/
set_option maxRecDepth 100000
/-- additions one behind another -/
def pSeq (X : List Nat) (f pl : Nat) : Option (List (Nat × Nat × Nat)) × Nat := match pAdd X pl with
  | (none, q) => (none, q)
  | (some t, q) => match pTail X f q with
    | (none, q2) => (none, q2)
    | (some ts, q2) => (some (t :: ts), q2)
theorem pTail_see {X : List Nat} {f pl : Nat} (h : see X pl 59 59 = true) : pTail X (f + 1) pl = pSeq X f (pl + 1) := by
  conv => lhs; unfold pTail
  rw [if_pos h]
  rfl
theorem pTail_no {X : List Nat} {f pl : Nat} (h : see X pl 59 59 = false) : pTail X f pl = (some [], pl) := by
  cases f with
  | zero => rfl
  | succ f =>
    unfold pTail
    rw [h]; rfl
theorem pAll_seq (X : List Nat) : pAll X = match pSeq X X.length 0 with
    | (none, q) => (none, q)
    | (some ts, q2) => if q2 < X.length then (none, q2) else (some ts, q2) := by
  unfold pAll pSeq
  rcases pAdd X 0 with ⟨_ | t, q⟩
  · rfl
  · dsimp only
    rcases pTail X X.length q with ⟨_ | ts, q2⟩
    · rfl
    · rfl
def frI (X : List Nat) (r : Option (List (Nat × Nat × Nat)) × Nat) : Int32 := match r with
  | (none, q) => nI q
  | (some _, q) => if q = X.length then -5 else nI q
section D37
variable {G : g_} {ad : Nat → Nat} {h : hp_} {V : Nat → Nat → Int32} {F : Nat → Int32} {S : st_}
theorem MS.fk {F' : Nat → Int32} (M : MS S V F) (k : FK F F') : MS S V F' := by
  obtain ⟨m1, m2, m3, m4, m5, m6⟩ := M
  refine ⟨m1, k.1.trans m2, m3, ?_, k.2.2.trans m5, m6⟩
  rw [k.2.1]; exact m4
theorem MS.pd (M : MS S V F) (W : WSS S) : PD V F S.2.2.2 := ⟨M.2.2.2.2.1, W.2.2.2.2.1, fun i c hc => ⟨W.2.2.2.2.2 i c hc, M.2.2.2.2.2 i c hc⟩⟩
theorem X3_fault_ (D : MD ad) (M : MS S V F) (W : WSS S) : Do_ G M_X3_fault [.ref (ad 6)] (mk_ ad h V F) (RI fun y h' => y = frI S.2.2.2 (pSeq S.2.2.2 S.2.2.2.length 0) ∧ ∃ F', h' = mk_ ad h V F' ∧ FK F F') := by
  have p := M.pd W
  have key : ∀ (f pl : Nat) (F1 : Nat → Int32), S.2.2.2.length - pl ≤ f → pl ≤ S.2.2.2.length → FK F F1 → F1 3 = nI pl → frI S.2.2.2 (pSeq S.2.2.2 S.2.2.2.length 0) = frI S.2.2.2 (pSeq S.2.2.2 f pl) →
      Go_ G M_X3_fault 7 [some (.ref (ad 6)), some (.int 1)] [] (mk_ ad h V F1) (RI fun y h' => y = frI S.2.2.2 (pSeq S.2.2.2 S.2.2.2.length 0) ∧ ∃ F', h' = mk_ ad h V F' ∧ FK F F') := by
    intro f
    induction f with
    | zero =>
      intro pl F1 hf hpl k1 k3 e
      refine w_X3_fault_7 ⟨fun c => absurd c (by decide), fun _ => ⟨cax mk6, ?_⟩⟩
      refine (X3_readsAddition_ (b := false) D (p.fk k1) k3 hpl W.1 M.1).ri ?_
      rintro _ h1 - - ⟨rfl, V1, F2, e1, f1, f3, -, fV, -⟩
      rw [e1]; clear e1
      rw [fV rfl]
      have eA : pAdd S.2.2.2 pl = ((pAdd S.2.2.2 pl).1, (pAdd S.2.2.2 pl).2) := rfl
      have hno := pAdd_ok (X := S.2.2.2) hpl
      generalize (pAdd S.2.2.2 pl).1 = o at *
      generalize (pAdd S.2.2.2 pl).2 = q at *
      cases o with
      | none =>
        refine ⟨fun c => absurd rfl c, fun _ => ⟨_, gfx mk6 rfl rfl, _, rfl, ?_, F2, rfl, k1.tr f1⟩⟩
        rw [e, f3]
        unfold pSeq
        rw [eA]
        rfl
      | some t =>
        refine ⟨fun _ => ⟨cax mk6, (X3_takes_ (c := 59) D (p.fk (k1.tr f1)) f3 hno.2.1 (by omega)).use ?_⟩, fun c => absurd (bI_some _) c⟩
        have h1 := hno.1
        have h2 := hno.2.1
        have hs : see S.2.2.2 q 59 59 = false := by
          cases hh : see S.2.2.2 q 59 59 with
          | false => rfl
          | true => have := see_lt hh; omega
        rw [hs]
        refine w_X3_fault_7 ⟨fun _ => ⟨_, gfx mk6 rfl rfl, _, gfx mk6 rfl rfl, ?_⟩, fun c => absurd rfl c⟩
        have e9 : frI S.2.2.2 (pSeq S.2.2.2 S.2.2.2.length 0) = if q = S.2.2.2.length then -5 else nI q := by
          rw [e]
          unfold pSeq
          rw [eA]
          rfl
        rw [e9, upd_at, upd_ne _ _ (by omega), (k1.tr f1).2.2, M.2.2.2.2.1, show (if false = true then q + 1 else q) = q from rfl]
        refine ⟨fun c => ⟨_, gfx mk6 rfl rfl, _, rfl, ?_, _, rfl, (k1.tr f1).up _ (by omega)⟩, fun c => ⟨_, rfl, ?_, _, rfl, (k1.tr f1).up _ (by omega)⟩⟩
        · rw [upd_at]; show nI q = _; rw [if_neg (fun z => c (by rw [z]))]
        · have hP := W.2.2.2.2.1
          rw [if_pos ((nI_eq' (by omega) (by omega)).mp (Classical.not_not.mp c))]
    | succ f ih =>
      intro pl F1 hf hpl k1 k3 e
      refine w_X3_fault_7 ⟨fun c => absurd c (by decide), fun _ => ⟨cax mk6, ?_⟩⟩
      refine (X3_readsAddition_ (b := false) D (p.fk k1) k3 hpl W.1 M.1).ri ?_
      rintro _ h1 - - ⟨rfl, V1, F2, e1, f1, f3, -, fV, -⟩
      rw [e1]; clear e1
      rw [fV rfl]
      have eA : pAdd S.2.2.2 pl = ((pAdd S.2.2.2 pl).1, (pAdd S.2.2.2 pl).2) := rfl
      have hno := pAdd_ok (X := S.2.2.2) hpl
      generalize (pAdd S.2.2.2 pl).1 = o at *
      generalize (pAdd S.2.2.2 pl).2 = q at *
      cases o with
      | none =>
        refine ⟨fun c => absurd rfl c, fun _ => ⟨_, gfx mk6 rfl rfl, _, rfl, ?_, F2, rfl, k1.tr f1⟩⟩
        rw [e, f3]
        unfold pSeq
        rw [eA]
        rfl
      | some t =>
        have h1 := hno.1
        have h2 := hno.2.1
        refine ⟨fun _ => ⟨cax mk6, (X3_takes_ (c := 59) D (p.fk (k1.tr f1)) f3 hno.2.1 (by omega)).use ?_⟩, fun c => absurd (bI_some _) c⟩
        cases hs : see S.2.2.2 q 59 59 with
        | true =>
          have hq := see_lt hs
          refine ih (q + 1) _ (by omega) hq ((k1.tr f1).up _ (by omega)) (upd_at _ _ _) ?_
          rw [e]
          conv => lhs; unfold pSeq
          rw [eA]
          dsimp only
          rw [pTail_see hs]
          rcases pSeq S.2.2.2 f (q + 1) with ⟨_ | us, q2⟩
          · rfl
          · rfl
        | false =>
          refine w_X3_fault_7 ⟨fun _ => ⟨_, gfx mk6 rfl rfl, _, gfx mk6 rfl rfl, ?_⟩, fun c => absurd rfl c⟩
          have e9 : frI S.2.2.2 (pSeq S.2.2.2 S.2.2.2.length 0) = if q = S.2.2.2.length then -5 else nI q := by
            rw [e]
            unfold pSeq
            rw [eA]
            dsimp only
            rw [pTail_no hs]
            rfl
          rw [e9, upd_at, upd_ne _ _ (by omega), (k1.tr f1).2.2, M.2.2.2.2.1, show (if false = true then q + 1 else q) = q from rfl]
          refine ⟨fun c => ⟨_, gfx mk6 rfl rfl, _, rfl, ?_, _, rfl, (k1.tr f1).up _ (by omega)⟩, fun c => ⟨_, rfl, ?_, _, rfl, (k1.tr f1).up _ (by omega)⟩⟩
          · rw [upd_at]; show nI q = _; rw [if_neg (fun z => c (by rw [z]))]
          · have hP := W.2.2.2.2.1
            rw [if_pos ((nI_eq' (by omega) (by omega)).mp (Classical.not_not.mp c))]
  exact e_X3_fault ⟨_, p_sp D, key S.2.2.2.length 0 _ (by omega) (Nat.zero_le _) (FK.rf.up _ (by omega)) (upd_at _ _ _) rfl⟩
theorem X3_addAll_ (D : MD ad) (M : MS S V F) (W : WSS S) : Do_ G M_X3_addAll [.ref (ad 6)] (mk_ ad h V F) (PM ad h (adlA S)) := by
  have hP := W.2.2.2.2.1
  have hall := pAll_seq S.2.2.2
  refine e_X3_addAll ⟨cax mk6, (X3_fault_ D M W).ri ?_⟩
  rintro _ h1 - - ⟨rfl, F1, e1, k1⟩
  rw [e1]; clear e1
  have eS : pSeq S.2.2.2 S.2.2.2.length 0 = ((pSeq S.2.2.2 S.2.2.2.length 0).1, (pSeq S.2.2.2 S.2.2.2.length 0).2) := rfl
  have hok := pAll_ok (X := S.2.2.2)
  have hpt : (pSeq S.2.2.2 S.2.2.2.length 0).2 ≤ S.2.2.2.length := by
    have h0 := pAdd_ok (X := S.2.2.2) (pl := 0) (Nat.zero_le _)
    unfold pSeq
    generalize pAdd S.2.2.2 0 = r at h0
    obtain ⟨o, q⟩ := r
    cases o with
    | none => exact h0.2.1
    | some t =>
      have h3 := pTail_ok (X := S.2.2.2) S.2.2.2.length q h0.2.1
      dsimp only
      generalize pTail S.2.2.2 S.2.2.2.length q = r2 at h3
      obtain ⟨o2, q2⟩ := r2
      cases o2 with
      | none => exact h3.2.1
      | some ts => exact h3.2.1
  -- where there is a fault
  have flt : ∀ q, pAll S.2.2.2 = (none, q) → q ≤ S.2.2.2.length → frI S.2.2.2 (pSeq S.2.2.2 S.2.2.2.length 0) = nI q → ((frI S.2.2.2 (pSeq S.2.2.2 S.2.2.2.length 0) = -5 → (cls_at (mk_ ad h V F1) (ad 6) = some 3 ∧ Do_ G M_X3_remember [.ref (ad 6)] (mk_ ad h V F1) (RV fun h3 => ∃ h4, pf fd_X3_spot h3 (ad 6) (.int 0) = some h4 ∧ Go_ G M_X3_addAll 29 [some (.ref (ad 6)), none, some (.int 0), some (.int 1), none, none] [] h4 (PM ad h (adlA S))))) ∧ (¬ frI S.2.2.2 (pSeq S.2.2.2 S.2.2.2.length 0) = -5 → PM ad h (adlA S) (.inl (some (.int (-100 - frI S.2.2.2 (pSeq S.2.2.2 S.2.2.2.length 0))))) (mk_ ad h V F1))) := by
    intro q hq hql hf
    rw [hf]
    exact ⟨fun c => absurd c (nI_m5 (by omega)), fun _ => PM.no (M.fk k1) (by unfold adlA; rw [hq])⟩
  rcases hR : pSeq S.2.2.2 S.2.2.2.length 0 with ⟨_ | ts, q⟩
  · rw [hR] at hall hpt flt
    exact flt q hall hpt rfl
  · rw [hR] at hall hpt flt
    dsimp only at hall
    by_cases hq : q < S.2.2.2.length
    · rw [if_pos hq] at hall
      exact flt q hall hpt (by show (if q = _ then _ else _) = _; rw [if_neg (by omega)])
    · rw [if_neg hq] at hall
      have hqe : q = S.2.2.2.length := by have : q ≤ S.2.2.2.length := hpt; omega
      have okts := hok.2 ts (by rw [hall])
      refine ⟨fun _ => ⟨cax mk6, (X3_remember_ D).rv ?_⟩, fun c => absurd (show (if q = _ then _ else _) = _ from if_pos hqe) c⟩
      rintro h2 - - ⟨fk, e2, ff⟩
      rw [e2]; clear e2
      refine ⟨_, p_sp D, ?_⟩
      -- one after another
      have key : ∀ (us : List (Nat × Nat × Nat)) (k f pl : Nat) (σ : sg_) (V1 : Nat → Nat → Int32) (F2 : Nat → Int32), S.2.2.2.length - pl ≤ f → pl ≤ S.2.2.2.length → FK F F2 → F2 3 = nI pl → V04 (up V 1 fk) V1 → AR σ (V1 0) → WS σ → pSeq S.2.2.2 f pl = (some us, q) → ts.length = k + us.length → addsS S.1 ts = addsS σ us → k < 1000 →
          Go_ G M_X3_addAll 29 [some (.ref (ad 6)), none, some (.int (nI k)), some (.int 1), none, none] [] (mk_ ad h V1 F2) (PM ad h (adlA S)) := by
        intro us
        induction us with
        | nil =>
          intro k f pl σ V1 F2 hf hpl k2 k3 v1 A1 W1 e el ea hk
          exfalso
          unfold pSeq at e
          rcases hA : pAdd S.2.2.2 pl with ⟨_ | t, q0⟩
          · rw [hA] at e; cases e
          · rw [hA] at e
            dsimp only at e
            rcases hT : pTail S.2.2.2 f q0 with ⟨_ | ts', q1⟩
            · rw [hT] at e; cases e
            · rw [hT] at e; cases e
        | cons u us ih =>
          intro k f pl σ V1 F2 hf hpl k2 k3 v1 A1 W1 e el ea hk
          have p2 : PD V1 F2 S.2.2.2 := by
            obtain ⟨p1, p2, p3⟩ := (M.pd W).fk k2
            refine ⟨p1, p2, fun i c hc => ?_⟩
            rw [v1 5 (by omega) (by omega), up_ne _ _ (by omega)]
            exact p3 i c hc
          have hno := pAdd_ok (X := S.2.2.2) hpl
          have eA : pAdd S.2.2.2 pl = ((pAdd S.2.2.2 pl).1, (pAdd S.2.2.2 pl).2) := rfl
          refine w_X3_addAll_29 ⟨fun c => absurd c (by decide), fun _ => ⟨cax mk6, ?_⟩⟩
          refine (X3_readsAddition_ (b := true) D p2 k3 hpl W1 A1).ri ?_
          rintro _ h3 - - ⟨rfl, V3, F3, e3, f1, f3, v3, -, f5⟩
          rw [e3]; clear e3
          have f5 := f5 rfl
          unfold pSeq at e
          generalize (pAdd S.2.2.2 pl).1 = o at *
          generalize (pAdd S.2.2.2 pl).2 = q0 at *
          rw [eA] at e
          cases o with
          | none => cases e
          | some t =>
            dsimp only at e
            obtain ⟨g5, A3⟩ := f5 t rfl
            have okt := hno.2.2 t rfl
            have W3 := WS_make W1 okt
            have hq1 := hno.1
            have hq2 := hno.2.1
            have kk := k2.tr f1
            have vv := v1.tr v3
            have eu : t = u ∧ pTail S.2.2.2 f q0 = (some us, q) := by
              rcases hT : pTail S.2.2.2 f q0 with ⟨_ | ts', q1⟩
              · rw [hT] at e; cases e
              · rw [hT] at e
                dsimp only at e
                cases e
                exact ⟨rfl, rfl⟩
            obtain ⟨rfl, eT⟩ := eu
            have p3 : PD V3 F3 S.2.2.2 := by
              obtain ⟨p1, p2, p3⟩ := (M.pd W).fk kk
              refine ⟨p1, p2, fun i c hc => ?_⟩
              rw [vv 5 (by omega) (by omega), up_ne _ _ (by omega)]
              exact p3 i c hc
            have el' : ts.length = k + 1 + us.length := by rw [el, List.length_cons]; omega
            have hts60 := okts.2
            -- the next, or the end
            have nx : ¬ (¬ 0 ≤ (makeS σ t).1 ∧ ¬ (makeS σ t).1 = -5) → (cls_at (mk_ ad h V3 F3) (ad 6) = some 3 ∧ Do_ G M_X3_takes [.ref (ad 6), .int 59] (mk_ ad h V3 F3) (RI fun x6 h7 => Go_ G M_X3_addAll 29 [some (.ref (ad 6)), none, some (.int (nI k + 1)), some (.int x6), none, none] [] h7 (PM ad h (adlA S)))) := by
              intro hgo
              refine ⟨cax mk6, (X3_takes_ (c := 59) D p3 f3 hq2 (by omega)).use ?_⟩
              rw [show nI k + 1 = nI (k + 1) from nI_add' k 1]
              have ea' : addsS S.1 ts = addsS (makeS σ t).2 us := by
                rw [ea]
                conv => lhs; unfold addsS
                rw [if_neg hgo]
              cases hs : see S.2.2.2 q0 59 59 with
              | true =>
                have hq3 := see_lt hs
                cases f with
                | zero => omega
                | succ f =>
                  rw [pTail_see hs] at eT
                  exact ih (k + 1) f (q0 + 1) _ V3 _ (by omega) hq3 (kk.up _ (by omega)) (upd_at _ _ _) vv A3 W3 eT el' ea' (by omega)
              | false =>
                rw [pTail_no hs] at eT
                have hus : us = [] := by cases eT; rfl
                subst hus
                refine w_X3_addAll_29 ⟨fun _ => ⟨cax mk6, ?_⟩, fun c => absurd rfl c⟩
                refine PM.act D (M.fk (kk.up _ (by omega))) W (σ' := (makeS σ t).2) A3 (by rw [vv 1 (by omega) (by omega), up_at]; exact M.1.cong ff) (by rw [vv 2 (by omega) (by omega), up_ne _ _ (by omega)]) (by rw [vv 3 (by omega) (by omega), up_ne _ _ (by omega)]) (by rw [vv 5 (by omega) (by omega), up_ne _ _ (by omega)]) ?_
                unfold adlA
                rw [hall]
                dsimp only
                rw [ea']
                show (nI ts.length, _) = _
                rw [el']
                rfl
            refine ⟨_, gfx mk6 rfl rfl, ?_⟩
            rw [g5]
            refine ⟨fun c => nx (fun z => z.1 c), fun c => ⟨_, gfx mk6 rfl rfl, ?_⟩⟩
            rw [g5]
            refine ⟨fun c2 => nx (fun z => z.2 c2), fun c2 => ?_⟩
            -- all is as it was
            have bk : ∀ (j k : Nat) (g : Nat → Int32), 149 - k = j → k ≤ 149 → (∀ i, i < k → g i = fk i) →
                Go_ G M_X3_addAll 59 [some (.ref (ad 6)), none, none, none, none, some (.int (nI k))] [] (mk_ ad h (up V3 0 g) F3) (PM ad h (adlA S)) := by
              intro j
              induction j with
              | zero =>
                intro k g hj hk fg
                obtain rfl : k = 149 := by omega
                refine w_X3_addAll_59 ⟨fun _ => ⟨_, gfx mk6 rfl rfl, ?_⟩, fun c => absurd (by decide) c⟩
                rw [g5]
                refine PM.no (V := up V3 0 g) ((M.fk kk).same ?_ ?_ ?_ ?_) ?_
                · rw [up_at]
                  exact M.1.cong (fun i hi => by rw [fg i hi, ff i hi])
                · rw [up_ne _ _ (by omega), vv 2 (by omega) (by omega), up_ne _ _ (by omega)]
                · rw [up_ne _ _ (by omega), vv 3 (by omega) (by omega), up_ne _ _ (by omega)]
                · rw [up_ne _ _ (by omega), vv 5 (by omega) (by omega), up_ne _ _ (by omega)]
                · unfold adlA
                  rw [hall]
                  dsimp only
                  rw [ea]
                  unfold addsS
                  rw [if_pos ⟨c, c2⟩]
              | succ j ih =>
                intro k g hj hk fg
                refine w_X3_addAll_59 ⟨fun c => ?_, fun c => ⟨_, gfx mk6 rfl rfl, _, gfx mk6 rfl rfl, _, _, k, mk1 D, ix_nI (by omega) (by omega), _, _, k, mk0 D, ix_nI (by omega) (by omega), ?_⟩⟩
                · have := (nI_le' (a := 149) (by omega) (by omega)).mp c
                  omega
                · rw [set0 D, up_up, up_at, up_ne _ _ (by omega), vv 1 (by omega) (by omega), up_at, show nI k + 1 = nI (k + 1) from nI_add' k 1]
                  refine ih (k + 1) _ (by omega) (by omega) (fun i hi => ?_)
                  by_cases hik : i = k
                  · subst hik; rw [upd_at]
                  · rw [upd_ne _ _ hik]; exact fg i (by omega)
            have e0 : mk_ ad h V3 F3 = mk_ ad h (up V3 0 (V3 0)) F3 := by
              rw [← set0 D]
              exact (hset_id (mk0 D)).symm
            rw [e0]
            exact bk 149 0 (V3 0) rfl (by omega) (fun i hi => absurd hi (by omega))
      exact key ts 0 S.2.2.2.length 0 S.1 _ _ (by omega) (Nat.zero_le _) (k1.up _ (by omega)) (upd_at _ _ _) V04.rfl' (by rw [up_ne _ _ (by omega)]; exact M.1) W.1 hR (by omega) rfl (by omega)
end D37
