/-! SPECS 33: the model's whole state; its calls that change rows -/
set_option maxRecDepth 100000
def MS (S : st_) (V : Nat → Nat → Int32) (F : Nat → Int32) : Prop :=
  AR S.1 (V 0) ∧ F 0 = nI S.2.2.1.length ∧ HR S.2.2.1 (V 2) ∧ ((S.2.1 = none ∧ F 1 = 0) ∨ ∃ σ, S.2.1 = some σ ∧ F 1 = 1 ∧ AR σ (V 3)) ∧ F 2 = nI S.2.2.2.length ∧ ∀ (i c : Nat), S.2.2.2[i]? = some c → V 5 i = nI c
def WSS (S : st_) : Prop := WS S.1 ∧ (∀ σ, S.2.1 = some σ → WS σ) ∧ (∀ σ ∈ S.2.2.1, WS σ) ∧ S.2.2.1.length ≤ 4 ∧ S.2.2.2.length ≤ 60 ∧ ∀ (i c : Nat), S.2.2.2[i]? = some c → c < 65536
theorem XS.ws {G : g_} {h : hp_} {x : Nat} {S : st_} (A : XS G h x S) : WSS S := by
  obtain ⟨nw, snv, hq, es, a, pd, X, a1, a2, a3, a4, a5, a6, a7, a8⟩ := A
  refine ⟨a2.1, fun σ h1 => ?_, fun σ h1 => ?_, a6, a8.2.1, a8.1⟩
  · rcases a3 with ⟨b1, -⟩ | ⟨sn, τ, -, b2, b3⟩
    · rw [b1] at h1; cases h1
    · rw [b2] at h1; cases h1; exact b3.1
  · obtain ⟨i, hi⟩ := List.getElem?_of_mem h1
    have := (List.getElem?_eq_some_iff.mp hi).1
    exact (a7 i _ σ (List.getElem?_eq_getElem (by omega)) hi).1
/-- how a call of the model ends -/
abbrev PM (ad : Nat → Nat) (h : hp_) (r : Int32 × st_) : o_ → hp_ → Prop := RI fun y h' => y = r.1 ∧ ∃ V F, h' = mk_ ad h V F ∧ MS r.2 V F
section D33
variable {G : g_} {ad : Nat → Nat} {h : hp_} {V : Nat → Nat → Int32} {F : Nat → Int32} {S : st_}
theorem PM.no {y : Int32} {r : Int32 × st_} (M : MS S V F) (e : r = (y, S)) : PM ad h r (.inl (some (.int y))) (mk_ ad h V F) := by
  rw [e]
  exact ⟨_, rfl, rfl, V, F, rfl, M⟩
theorem PM.act {t : Int32} {σ' : sg_} {V' : Nat → Nat → Int32} {r : Int32 × st_} (D : MD ad) (M : MS S V F) (W : WSS S) (A : AR σ' (V' 0)) (B : AR S.1 (V' 1)) (v2 : V' 2 = V 2) (v3 : V' 3 = V 3) (v5 : V' 5 = V 5) (e : r = (t, beS S σ')) :
    Do_ G M_X3_acted [.ref (ad 6), .int t] (mk_ ad h V' F) (RI fun z h3 => PM ad h r (.inl (some (.int z))) h3) := by
  obtain ⟨m1, m2, m3, m4, m5, m6⟩ := M
  refine (X3_acted_ (H := S.2.2.1) (σ := S.1) D m2 W.2.2.2.1 (by rw [v2]; exact m3) B).ri ?_
  rintro _ h9 - - ⟨rfl, f, e9, H⟩
  rw [e9]; clear e9
  rw [e]
  refine ⟨_, rfl, rfl, _, _, rfl, ?_, ?_, ?_, ?_, ?_, ?_⟩
  · rw [up_ne _ _ (by omega)]; exact A
  · rw [upd_at]; rfl
  · rw [up_at]; exact H
  · rcases m4 with ⟨b1, b2⟩ | ⟨σ, b1, b2, b3⟩
    · exact Or.inl ⟨b1, by rw [upd_ne _ _ (by omega)]; exact b2⟩
    · exact Or.inr ⟨σ, b1, by rw [upd_ne _ _ (by omega)]; exact b2, by rw [up_ne _ _ (by omega), v3]; exact b3⟩
  · rw [upd_ne _ _ (by omega)]; exact m5
  · intro i c hc
    rw [up_ne _ _ (by omega), v5]
    exact m6 i c hc
/-- nothing of the state but the rows' arrays 0, 1 and 4 was written -/
theorem MS.same {V' : Nat → Nat → Int32} (M : MS S V F) (A : AR S.1 (V' 0)) (v2 : V' 2 = V 2) (v3 : V' 3 = V 3) (v5 : V' 5 = V 5) : MS S V' F := by
  obtain ⟨m1, m2, m3, m4, m5, m6⟩ := M
  refine ⟨A, m2, by rw [v2]; exact m3, ?_, m5, by rw [v5]; exact m6⟩
  rw [v3]; exact m4
theorem addA_eq {a b c : Int32} : addA S a b c = (if 0 ≤ (dAdd S.1 a b c).1 then ((dAdd S.1 a b c).1, beS S (dAdd S.1 a b c).2) else ((dAdd S.1 a b c).1, S)) := by
  unfold addA dAdd becS
  by_cases hin : (inr a 0 675 && (inr b 1 40 && inr c 0 9999)) = true
  · rw [if_pos hin, if_pos hin]
  · rw [if_neg hin, if_neg hin]
    rfl
theorem addS_neg {σ : sg_} {x l m : Nat} (h : ¬ 0 ≤ (addS σ x l m).1) : (addS σ x l m).2 = σ := by
  unfold addS at h ⊢
  split
  · rfl
  · rename_i h1
    rw [if_neg h1] at h
    split
    · rfl
    · rename_i h2
      rw [if_neg h2] at h
      split
      · rfl
      · rename_i h3
        rw [if_neg h3] at h
        exact absurd (nI_pos' (by omega)) h
theorem dAdd_neg {σ : sg_} {a b c : Int32} (h : ¬ 0 ≤ (dAdd σ a b c).1) : (dAdd σ a b c).2 = σ := by
  unfold dAdd at h ⊢
  split
  · rename_i h1
    rw [if_pos h1] at h
    exact addS_neg h
  · rfl
theorem WS.st {σ : sg_} (W : WS σ) {r : rw_} (hr : r ∈ σ.1) : r.2.2.1 ≤ 100 ∧ r.2.2.1 + r.2.2.2.1 ≤ 100 ∧ 1 ≤ r.2.2.2.1 ∧ r.2.2.2.1 ≤ 40 ∧ r.2.2.2.2 ≤ 9999 := by
  obtain ⟨t, ht⟩ := List.getElem?_of_mem (W.2.1 r hr).2.2
  have h1 := chn_at W.2.2.2.2.2.1 ht
  have h2 := W.2.2.2.2.2.2
  omega
theorem aliasS_neg {σ : sg_} {a x : Nat} (W : WS σ) (h : ¬ 0 ≤ (aliasS σ a x).1) : (aliasS σ a x).2 = σ := by
  unfold aliasS at h ⊢
  cases hm : memb σ.1 (nI x) with
  | none => rfl
  | some r =>
    have h9 := (W.st (memb_mem hm).1).1
    have hp : 0 ≤ nI r.2.2.1 := nI_pos' (by omega)
    rw [hm] at h
    dsimp only at h ⊢
    cases hl : look σ.1 (nI a) with
    | none =>
      rw [hl] at h
      dsimp only at h ⊢
      split
      · rfl
      · rename_i h2
        rw [if_neg h2] at h
        exact absurd hp h
    | some j =>
      rw [hl] at h
      dsimp only at h ⊢
      cases hq : σ.1[j]? with
      | none => rfl
      | some q =>
        rw [hq] at h
        dsimp only at h ⊢
        split
        · rename_i h2
          rw [if_pos h2] at h
          split
          · rfl
          · rename_i h3
            rw [if_neg h3] at h
            exact absurd hp h
        · rfl
theorem dAli_neg {σ : sg_} {a x : Int32} (W : WS σ) (h : ¬ 0 ≤ (dAli σ a x).1) : (dAli σ a x).2 = σ := by
  unfold dAli at h ⊢
  cases hm : memb σ.1 x with
  | none => rfl
  | some r =>
    rw [hm] at h
    dsimp only at h ⊢
    split
    · rename_i h1
      rw [if_pos h1] at h
      exact aliasS_neg W h
    · rfl
theorem aliA_eq {a b : Int32} : aliA S a b = (if 0 ≤ (dAli S.1 a b).1 then ((dAli S.1 a b).1, beS S (dAli S.1 a b).2) else ((dAli S.1 a b).1, S)) := by
  unfold aliA dAli becS
  cases memb S.1.1 b with
  | none => rfl
  | some r =>
    dsimp only
    by_cases hin : inr a 0 675 = true
    · rw [if_pos hin, if_pos hin]
    · rw [if_neg hin, if_neg hin]
      rfl
theorem X3_add_ {a b c : Int32} (D : MD ad) (M : MS S V F) (W : WSS S) : Do_ G M_X3_add [.ref (ad 6), .int a, .int b, .int c] (mk_ ad h V F) (PM ad h (addA S a b c)) := by
  refine e_X3_add ⟨cax mk6, (X3_remember_ D).rv ?_⟩
  rintro h1 - - ⟨f, e1, ff⟩
  rw [e1]; clear e1
  have A1 : AR S.1 ((up V 1 f) 0) := by rw [up_ne _ _ (by omega)]; exact M.1
  refine ⟨cax mk6, (X3_doAdd_ D W.1 A1).ri ?_⟩
  rintro y h2 - - ⟨rfl, V2, e2, v2, A2⟩
  rw [e2]; clear e2
  have k1 : V2 1 = f := by rw [v2 1 (by omega) (by omega), up_at]
  have k2 : V2 2 = V 2 := by rw [v2 2 (by omega) (by omega), up_ne _ _ (by omega)]
  have k3 : V2 3 = V 3 := by rw [v2 3 (by omega) (by omega), up_ne _ _ (by omega)]
  have k5 : V2 5 = V 5 := by rw [v2 5 (by omega) (by omega), up_ne _ _ (by omega)]
  refine ⟨fun c0 => ⟨cax mk6, PM.act D M W A2 (by rw [k1]; exact M.1.cong ff) k2 k3 k5 (by rw [addA_eq, if_pos c0])⟩, fun c0 => ?_⟩
  rw [dAdd_neg c0] at A2
  exact PM.no (M.same A2 k2 k3 k5) (by rw [addA_eq, if_neg c0])
theorem X3_alias_ {a b : Int32} (D : MD ad) (M : MS S V F) (W : WSS S) : Do_ G M_X3_alias [.ref (ad 6), .int a, .int b] (mk_ ad h V F) (PM ad h (aliA S a b)) := by
  refine e_X3_alias ⟨cax mk6, (X3_remember_ D).rv ?_⟩
  rintro h1 - - ⟨f, e1, ff⟩
  rw [e1]; clear e1
  have A1 : AR S.1 ((up V 1 f) 0) := by rw [up_ne _ _ (by omega)]; exact M.1
  refine ⟨cax mk6, (X3_doAlias_ D W.1 A1).ri ?_⟩
  rintro y h2 - - ⟨rfl, V2, e2, v2, A2⟩
  rw [e2]; clear e2
  have k1 : V2 1 = f := by rw [v2 1 (by omega) (by omega), up_at]
  have k2 : V2 2 = V 2 := by rw [v2 2 (by omega) (by omega), up_ne _ _ (by omega)]
  have k3 : V2 3 = V 3 := by rw [v2 3 (by omega) (by omega), up_ne _ _ (by omega)]
  have k5 : V2 5 = V 5 := by rw [v2 5 (by omega) (by omega), up_ne _ _ (by omega)]
  refine ⟨fun c0 => ⟨cax mk6, PM.act D M W A2 (by rw [k1]; exact M.1.cong ff) k2 k3 k5 (by rw [aliA_eq, if_pos c0])⟩, fun c0 => ?_⟩
  rw [dAli_neg W.1 c0] at A2
  exact PM.no (M.same A2 k2 k3 k5) (by rw [aliA_eq, if_neg c0])
theorem X3_replace_ {a b c : Int32} (D : MD ad) (M : MS S V F) (W : WSS S) : Do_ G M_X3_replace [.ref (ad 6), .int a, .int b, .int c] (mk_ ad h V F) (PM ad h (repA S a b c)) := by
  obtain ⟨hl, hl24⟩ := M.1.len
  have mem1 := X3_isMember_ (G := G) (h := h) (F := F) D M.1 (look_ltF (R := S.1.1) (x := a))
  rw [← rk_or, isM_memb] at mem1
  refine e_X3_replace ⟨cax mk6, (X3_rankOf_ D M.1).use ⟨cax mk6, mem1.use ⟨fun c1 => (X3_in32_ (lo := 1) (hi := 40) (by decide) (by decide)).use ⟨fun c2 => ?_, fun c2 => (X3_in32_ (lo := 0) (hi := 9999) (by decide) (by decide)).use ⟨fun c3 => ⟨cax mk6, ?_⟩, fun c3 => ?_⟩⟩, fun c1 => ?_⟩⟩⟩
  · have hms := (bI_ne0 _).mp c1
    cases hm : memb S.1.1 a with
    | none => rw [hm] at hms; cases hms
    | some r => exact PM.no M (by unfold repA; rw [hm, (bI_0 _).mp c2]; rfl)
  · have hms := (bI_ne0 _).mp c1
    have h2 := (bI_ne0 _).mp c2
    have h3 := (bI_ne0 _).mp c3
    obtain ⟨eb, hb1, hb2⟩ := inr_n (l := 1) (k := 40) (by omega) (by omega) h2
    obtain ⟨ec, -, hc2⟩ := inr_n (l := 0) (k := 9999) (by omega) (by omega) h3
    have hin : (inr b 1 40 && inr c 0 9999) = true := by rw [h2, h3]; rfl
    cases hm : memb S.1.1 a with
    | none => rw [hm] at hms; cases hms
    | some r0 =>
      have hra : repA S a b c = becS S (repS S.1 a (i2n b) (i2n c)) := by unfold repA; rw [hm]; dsimp only; rw [if_pos hin]
      have hlk : ∃ i r, look S.1.1 a = some i ∧ S.1.1[i]? = some r := by
        unfold memb at hm
        cases hk : look S.1.1 a with
        | none => rw [hk] at hm; cases hm
        | some i => exact ⟨i, _, rfl, List.getElem?_eq_getElem (look_ltF i hk)⟩
      obtain ⟨i, r, hki, hri⟩ := hlk
      have hil := look_ltF i hki
      have erk : rk S.1.1 a = nI i := by unfold rk; rw [hki]
      have rm := X3_isRoomFor_ (G := G) (h := h) (V := V) (F := F) (l := i2n b) D M.1 W.1.2.2.2.2.2.2 hb2
      rw [eb] at rm
      refine rm.use ⟨fun c4 => ⟨cax mk6, (X3_remember_ D).rv ?_⟩, fun c4 => ?_⟩
      · have hfit : tsum S.1.2.1 + i2n b ≤ 100 := of_decide_eq_true ((bI_ne0 _).mp c4)
        have hrs : repS S.1 a (i2n b) (i2n c) = (nI (tsum S.1.2.1), (S.1.1.set i (r.1, r.2.1, (tsum S.1.2.1, i2n b, i2n c)), S.1.2.1 ++ [(tsum S.1.2.1, i2n b, i2n c)], S.1.2.2)) := by
          unfold repS
          simp only [hki, hri, if_neg (show ¬ 100 < tsum S.1.2.1 + i2n b by omega)]
        rintro h1 - - ⟨f, e1, ff⟩
        rw [e1]; clear e1
        have A1 : AR S.1 ((up V 1 f) 0) := by rw [up_ne _ _ (by omega)]; exact M.1
        rw [erk]
        refine ⟨cax mk6, (X3_laysText_ (W := S.1.1.map rf) (i := i) (fi := rf r) D A1.1 (by rw [List.getElem?_map, hri]; rfl)).rv ?_⟩
        rintro h2 - - ⟨V2, e2, v2, R2, q1, q2, q3, q4⟩
        rw [e2]; clear e2
        have k1 : V2 1 = f := by rw [v2 1 (by omega) (by omega), up_at]
        have k2 : V2 2 = V 2 := by rw [v2 2 (by omega) (by omega), up_ne _ _ (by omega)]
        have k3 : V2 3 = V 3 := by rw [v2 3 (by omega) (by omega), up_ne _ _ (by omega)]
        have k5 : V2 5 = V 5 := by rw [v2 5 (by omega) (by omega), up_ne _ _ (by omega)]
        have hrow : ∀ k, k < 6 → rtx (rf r) ((up V 1 f) 0 2) b c k = rf (r.1, r.2.1, (tsum S.1.2.1, i2n b, i2n c)) k := by
          rw [A1.2.2.1]
          refine lt6 ?_ ?_ ?_ ?_ ?_ ?_
          · show upd _ _ _ _ = nI r.1
            rw [upd_ne _ _ (by omega), upd_ne _ _ (by omega), upd_ne _ _ (by omega)]; rfl
          · show upd _ _ _ _ = bI r.2.1.isSome
            rw [upd_ne _ _ (by omega), upd_ne _ _ (by omega), upd_ne _ _ (by omega)]; rfl
          · show upd _ _ _ _ = nI (tsum S.1.2.1)
            rw [upd_ne _ _ (by omega), upd_ne _ _ (by omega), upd_at]
          · show upd _ _ _ _ = nI (i2n b)
            rw [upd_ne _ _ (by omega), upd_at, eb]
          · show upd _ _ _ _ = nI (i2n c)
            rw [upd_at, ec]
          · show upd _ _ _ _ = gvI r.2.1
            rw [upd_ne _ _ (by omega), upd_ne _ _ (by omega), upd_ne _ _ (by omega)]; rfl
        have R3 : RA ((S.1.1.set i (r.1, r.2.1, (tsum S.1.2.1, i2n b, i2n c))).map rf) (V2 0) := by
          refine R2.cong (by rw [List.length_map, List.length_set, List.length_set, List.length_map]) (fun q g hg => ?_)
          rw [List.map_set, List.getElem?_set] at hg
          rw [List.getElem?_set]
          by_cases hq : i = q
          · rw [if_pos hq, if_pos (by rw [List.length_map]; omega)] at hg ⊢
            exact ⟨_, rfl, fun k hk => by rw [hrow k hk, Option.some.inj hg]⟩
          · rw [if_neg hq] at hg ⊢
            exact ⟨g, hg, fun _ _ => rfl⟩
        have A2 : AR (S.1.1.set i (r.1, r.2.1, (tsum S.1.2.1, i2n b, i2n c)), S.1.2.1 ++ [(tsum S.1.2.1, i2n b, i2n c)], S.1.2.2) (V2 0) := by
          refine AR.mk R3 ?_ ?_ ?_ ?_
          · rw [q1, A1.2.1]
          · rw [q2, A1.2.2.1]
            show _ = nI (tsum (S.1.2.1 ++ _))
            rw [tsum_snoc, ← nI_add', eb]
          · rw [q3, A1.2.2.2.1]
          · rw [q4, A1.2.2.2.2]
        have hg2 : ((S.1.1.map rf).set i (rtx (rf r) ((up V 1 f) 0 2) b c))[i]? = some (rtx (rf r) ((up V 1 f) 0 2) b c) := by
          rw [List.getElem?_set, if_pos rfl, if_pos (by rw [List.length_map]; exact hil)]
        refine ⟨cax mk6, (X3_of_ (w := 2) D (by omega)).use ⟨cax mk6, ?_⟩⟩
        rw [R2.2.2 _ _ hg2 2 (by omega), hrow 2 (by omega)]
        refine PM.act D M W A2 (by rw [k1]; exact M.1.cong ff) k2 k3 k5 ?_
        rw [hra, hrs]
        unfold becS
        rw [if_pos (nI_pos' (by have := W.1.2.2.2.2.2.2; omega))]
        rfl
      · have hfit : ¬ tsum S.1.2.1 + i2n b ≤ 100 := of_decide_eq_false ((bI_0 _).mp (Classical.not_not.mp c4))
        refine PM.no M ?_
        rw [hra]
        unfold repS becS
        simp only [hki, hri, if_pos (show 100 < tsum S.1.2.1 + i2n b by omega)]
        rw [if_neg (by decide)]
  · have hms := (bI_ne0 _).mp c1
    cases hm : memb S.1.1 a with
    | none => rw [hm] at hms; cases hms
    | some r => exact PM.no M (by unfold repA; rw [hm, (bI_0 _).mp (Classical.not_not.mp c3)]; simp)
  · have hms := (bI_0 _).mp (Classical.not_not.mp c1)
    cases hm : memb S.1.1 a with
    | none => exact PM.no M (by unfold repA; rw [hm])
    | some r => rw [hm] at hms; cases hms
theorem X3_remove_ {a : Int32} (D : MD ad) (M : MS S V F) (W : WSS S) : Do_ G M_X3_remove [.ref (ad 6), .int a] (mk_ ad h V F) (PM ad h (remA S a)) := by
  obtain ⟨hl, hl24⟩ := M.1.len
  refine e_X3_remove ⟨cax mk6, (X3_rankOf_ D M.1).use ⟨fun c1 => ⟨cax mk6, (X3_remember_ D).rv ?_⟩, fun c1 => ?_⟩⟩
  · cases hk : look S.1.1 a with
    | none => exact absurd ((rk_none hl24).mpr hk) c1
    | some i =>
      have hil := look_ltF i hk
      have hri : S.1.1[i]? = some S.1.1[i] := List.getElem?_eq_getElem hil
      have erk : rk S.1.1 a = nI i := by unfold rk; rw [hk]
      rintro h1 - - ⟨f, e1, ff⟩
      rw [e1]; clear e1
      have A1 : AR S.1 ((up V 1 f) 0) := by rw [up_ne _ _ (by omega)]; exact M.1
      rw [erk]
      refine ⟨cax mk6, (X3_takesOut_ (W := S.1.1.map rf) (i := i) D A1.1 (by rw [List.getElem?_map, hri]; rfl)).rv ?_⟩
      rintro h2 - - ⟨V2, e2, v2, R2, H2, -⟩
      rw [e2]; clear e2
      have k1 : V2 1 = f := by rw [v2 1 (by omega) (by omega), up_at]
      have k2 : V2 2 = V 2 := by rw [v2 2 (by omega) (by omega), up_ne _ _ (by omega)]
      have k3 : V2 3 = V 3 := by rw [v2 3 (by omega) (by omega), up_ne _ _ (by omega)]
      have k5 : V2 5 = V 5 := by rw [v2 5 (by omega) (by omega), up_ne _ _ (by omega)]
      rw [← map_ers] at R2
      have A2 : AR (S.1.1.eraseIdx i, S.1.2) (V2 0) := AR.mk R2 (by rw [H2.1, A1.2.1]) (by rw [H2.2.1, A1.2.2.1]) (by rw [H2.2.2.1, A1.2.2.2.1]) (by rw [H2.2.2.2, A1.2.2.2.2])
      refine ⟨_, gfx mk6 rfl rfl, _, _, 0, mk0 D, ix_nI (j := 0) (by omega) (by omega), cax mk6, ?_⟩
      rw [R2.1, List.length_map, List.length_eraseIdx, if_pos hil]
      exact PM.act D M W A2 (by rw [k1]; exact M.1.cong ff) k2 k3 k5 (by unfold remA; rw [hk])
  · have hk := (rk_none hl24).mp (Classical.not_not.mp c1)
    exact PM.no M (by unfold remA; rw [hk])
theorem RA_set {W : List (Nat → Int32)} {A : Nat → Int32} {i w : Nat} {f : Nat → Int32} {x : Int32} (a : RA W A) (hi : W[i]? = some f) (hw : w < 6) : RA (W.set i (upd f w x)) (upd A (5 + 6 * i + w) x) ∧ hd4 A (upd A (5 + 6 * i + w) x) := by
  obtain ⟨a1, a2, a3⟩ := a
  have hil := (List.getElem?_eq_some_iff.mp hi).1
  refine ⟨⟨by rw [upd_ne _ _ (by omega), List.length_set]; exact a1, by rw [List.length_set]; exact a2, fun q g hg k hk => ?_⟩, ?_, ?_, ?_, ?_⟩
  · rw [List.getElem?_set] at hg
    by_cases hq : i = q
    · subst hq
      rw [if_pos rfl, if_pos hil] at hg
      rw [← Option.some.inj hg]
      by_cases hkw : k = w
      · subst hkw; rw [upd_at, upd_at]
      · rw [upd_ne _ _ (by omega), upd_ne _ _ hkw]; exact a3 i f hi k hk
    · rw [if_neg hq] at hg
      rw [upd_ne _ _ (by omega)]
      exact a3 q g hg k hk
  · rw [upd_ne _ _ (by omega)]
  · rw [upd_ne _ _ (by omega)]
  · rw [upd_ne _ _ (by omega)]
  · rw [upd_ne _ _ (by omega)]
theorem hd4.tr {A B C : Nat → Int32} (a : hd4 A B) (b : hd4 B C) : hd4 A C := ⟨b.1.trans a.1, b.2.1.trans a.2.1, b.2.2.1.trans a.2.2.1, b.2.2.2.trans a.2.2.2⟩
theorem map_insR {R : List rw_} {r : rw_} {g : rw_ → rw_} (hg : ∀ r, (g r).1 = r.1) : (insR R r).map g = insR (R.map g) (g r) := by
  unfold insR
  rw [map_ins, hg, plc_map hg]
theorem rf_gvn (m : Bool) (o y : Nat) (r : rw_) : ∀ k, k < 6 → upd (rf r) 5 (gvI (gvn m o y r).2.1) k = rf (gvn m o y r) k := by
  refine lt6 ?_ ?_ ?_ ?_ ?_ ?_
  · rw [upd_ne _ _ (by omega)]
    show nI r.1 = nI (gvn _ _ _ r).1
    rw [gvn_1]
  · rw [upd_ne _ _ (by omega)]
    show bI r.2.1.isSome = bI (gvn _ _ _ r).2.1.isSome
    unfold gvn
    split
    · rename_i hc
      rw [hc.2]; rfl
    · rfl
  · rw [upd_ne _ _ (by omega)]
    show nI r.2.2.1 = nI (gvn _ _ _ r).2.2.1
    rw [gvn_t]
  · rw [upd_ne _ _ (by omega)]
    show nI r.2.2.2.1 = nI (gvn _ _ _ r).2.2.2.1
    rw [gvn_t]
  · rw [upd_ne _ _ (by omega)]
    show nI r.2.2.2.2 = nI (gvn _ _ _ r).2.2.2.2
    rw [gvn_t]
  · rw [upd_at]
    rfl
theorem RA_setw {R : List rw_} {A : Nat → Int32} {k w : Nat} {r r' : rw_} {x : Int32} (a : RA (R.map rf) A) (hx : R[k]? = some r) (hw : w < 6) (e : ∀ j, j < 6 → upd (rf r) w x j = rf r' j) : RA ((R.set k r').map rf) (upd A (5 + 6 * k + w) x) ∧ hd4 A (upd A (5 + 6 * k + w) x) := by
  obtain ⟨g1, g2⟩ := RA_set (w := w) (x := x) a (i := k) (f := rf r) (by rw [List.getElem?_map, hx]; rfl) hw
  have hkl := (List.getElem?_eq_some_iff.mp hx).1
  refine ⟨g1.cong (by rw [List.length_map, List.length_set, List.length_set, List.length_map]) (fun q g hg => ?_), g2⟩
  rw [List.map_set, List.getElem?_set] at hg
  rw [List.getElem?_set]
  by_cases hq : k = q
  · rw [if_pos hq, if_pos (by rw [List.length_map]; omega)] at hg ⊢
    refine ⟨_, rfl, ?_⟩
    rw [← Option.some.inj hg]
    exact e
  · rw [if_neg hq] at hg ⊢
    exact ⟨g, hg, fun _ _ => rfl⟩
theorem ren77_ {R4 : List rw_} {f : Nat → Int32} {a b q : Int32} {i : Nat} {m : Bool} (D : MD ad) (M : MS S V F) (W : WSS S) (ff : ∀ k, k < 149 → f k = V 0 k) (ea1 : nI (i2n a) = a) (ea2 : i2n a < 676) (eb : nI (i2n b) = b) (hgiv : ∀ q ∈ R4, ∀ y, q.2.1 = some y → y < 676) (hl4 : R4.length ≤ 24) (hren : renA S a b = (q, beS S (renS S.1 i (i2n a) (i2n b)))) (hrenS : renS S.1 i (i2n a) (i2n b) = (R4.map (gvn m (i2n a) (i2n b)), S.1.2)) :
    ∀ (j k : Nat) (V4 : Nat → Nat → Int32), R4.length - k = j → k ≤ R4.length → V04 (up V 1 f) V4 → hd4 (V 0) (V4 0) → RA (((R4.take k).map (gvn m (i2n a) (i2n b)) ++ R4.drop k).map rf) (V4 0) →
      Go_ G M_X3_rename 77 [some (.ref (ad 6)), some (.int a), some (.int b), none, some (.int (bI m)), some (.int q), some (.int (nI k))] [] (mk_ ad h V4 F) (PM ad h (renA S a b)) := by
  intro j
  induction j with
  | zero =>
    intro k V4 hj hk v4 H4 R5
    have e0 := R5.1
    rw [List.take_of_length_le (by omega), List.drop_of_length_le (by omega), List.append_nil] at R5
    have k1 : V4 1 = f := by rw [v4 1 (by omega) (by omega), up_at]
    have k2 : V4 2 = V 2 := by rw [v4 2 (by omega) (by omega), up_ne _ _ (by omega)]
    have k3 : V4 3 = V 3 := by rw [v4 3 (by omega) (by omega), up_ne _ _ (by omega)]
    have k5 : V4 5 = V 5 := by rw [v4 5 (by omega) (by omega), up_ne _ _ (by omega)]
    refine w_X3_rename_77 ⟨_, gfx mk6 rfl rfl, _, _, 0, mk0 D, ix_nI (j := 0) (by omega) (by omega), fun _ => ⟨cax mk6, ?_⟩, fun c => ?_⟩
    · refine PM.act D M W (σ' := renS S.1 i (i2n a) (i2n b)) ?_ (by rw [k1]; exact M.1.cong ff) k2 k3 k5 hren
      rw [hrenS]
      exact AR.mk R5 (by rw [H4.1, M.1.2.1]) (by rw [H4.2.1, M.1.2.2.1]) (by rw [H4.2.2.1, M.1.2.2.2.1]) (by rw [H4.2.2.2, M.1.2.2.2.2])
    · rw [R5.1, List.length_map, List.length_map] at c
      exact absurd ((nI_le' (by omega) (by omega)).mpr (by omega)) c
  | succ j ih =>
    intro k V4 hj hk v4 H4 R5
    have hx : R4[k]? = some R4[k] := List.getElem?_eq_getElem (by omega)
    obtain ⟨st1, st2⟩ := step_map (g := gvn m (i2n a) (i2n b)) hx
    have hxf : (((R4.take k).map (gvn m (i2n a) (i2n b)) ++ R4.drop k).map rf)[k]? = some (rf R4[k]) := by rw [List.getElem?_map, st2]; rfl
    have hlk : (((R4.take k).map (gvn m (i2n a) (i2n b)) ++ R4.drop k).map rf).length = R4.length := by
      rw [List.length_map, List.length_append, List.length_map, List.length_take, List.length_drop]; omega
    have nx : ∀ x : Int32, x = gvI (gvn m (i2n a) (i2n b) R4[k]).2.1 → Go_ G M_X3_rename 77 [some (.ref (ad 6)), some (.int a), some (.int b), none, some (.int (bI m)), some (.int (q)), some (.int (nI k + 1))] [] (mk_ ad h (up V4 0 (upd (V4 0) (5 + 6 * k + 5) x)) F) (PM ad h (renA S a b)) := by
      intro x hx5
      rw [show nI k + 1 = nI (k + 1) from nI_add' k 1]
      subst hx5
      obtain ⟨g1, g2⟩ := RA_setw (w := 5) R5 st2 (by omega) (rf_gvn m (i2n a) (i2n b) R4[k])
      refine ih (k + 1) _ (by omega) (by omega) (v4.up0 _) (by rw [up_at]; exact H4.tr g2) ?_
      rw [up_at, ← st1]
      exact g1
    have e5 : V4 0 (5 + 6 * k + 5) = gvI R4[k].2.1 := R5.2.2 k _ hxf 5 (by omega)
    have hgk := hgiv R4[k] (List.mem_of_getElem? hx)
    refine w_X3_rename_77 ⟨_, gfx mk6 rfl rfl, _, _, 0, mk0 D, ix_nI (j := 0) (by omega) (by omega), fun c => ?_, fun c => ⟨fun c5 => ⟨cax mk6, (X3_of_ (w := 5) D (by omega)).use ⟨cax mk6, (X3_sets_ (w := 5) D (by omega)).use ?_⟩⟩, fun c5 => ⟨cax mk6, (X3_of_ (w := 5) D (by omega)).use ?_⟩⟩⟩
    · rw [R5.1, hlk] at c
      have := (nI_le' (by omega) (by omega)).mp c
      omega
    · refine nx _ ?_
      rw [e5]
      have hb0 := (bI_0 _).mp c5
      unfold gvn
      rw [if_neg (fun q => absurd q.1 (by rw [hb0]; decide))]
    · have hb1 := (bI_ne0 _).mp c5
      rw [e5]
      refine ⟨fun c6 => ⟨cax mk6, (X3_of_ (w := 5) D (by omega)).use ⟨cax mk6, (X3_sets_ (w := 5) D (by omega)).use ?_⟩⟩, fun c6 => ⟨cax mk6, (X3_sets_ (w := 5) D (by omega)).use ?_⟩⟩
      · refine nx _ ?_
        rw [e5]
        unfold gvn
        rw [if_neg (fun q => c6 (by rw [(given_x hgk ea2).mpr q.2, ea1]))]
      · refine nx _ ?_
        have h6 := Classical.not_not.mp c6
        have h6 := h6.trans ea1.symm
        unfold gvn
        rw [if_pos ⟨hb1, (given_x hgk ea2).mp h6⟩]
        show b = nI (i2n b)
        rw [eb]
theorem X3_rename_ {a b : Int32} (D : MD ad) (M : MS S V F) (W : WSS S) : Do_ G M_X3_rename [.ref (ad 6), .int a, .int b] (mk_ ad h V F) (PM ad h (renA S a b)) := by
  obtain ⟨hl, hl24⟩ := M.1.len
  refine e_X3_rename ⟨cax mk6, (X3_rankOf_ D M.1).use ⟨fun c1 => X3_isName_.use ⟨fun c2 => ⟨fun c3 => ⟨cax mk6, (X3_rankOf_ D M.1).use ⟨fun c4 => ⟨cax mk6, (X3_remember_ D).rv ?_⟩, fun c4 => ?_⟩⟩, fun c3 => ?_⟩, fun c2 => ?_⟩, fun c1 => ?_⟩⟩
  · cases hk : look S.1.1 a with
    | none => exact absurd ((rk_none hl24).mpr hk) c1
    | some i =>
      have hil := look_ltF i hk
      have hri : S.1.1[i]? = some S.1.1[i] := List.getElem?_eq_getElem hil
      have erk : rk S.1.1 a = nI i := by unfold rk; rw [hk]
      have hin := (bI_ne0 _).mp c2
      obtain ⟨eb, -, hb⟩ := inr_n (l := 0) (k := 675) (by omega) (by omega) hin
      have hnb := (rk_none hl24).mp c4
      have hea : nI (i2n a) = a ∧ i2n a < 676 := by
        obtain ⟨r', h1, h2, -⟩ := look_some hk
        have h3 := (W.1.2.1 r' (List.mem_of_getElem? h1)).1
        rw [← h2]
        unfold i2n
        rw [nI_toInt (by omega)]
        exact ⟨by simp, by omega⟩
      rintro h1 - - ⟨f, e1, ff⟩
      rw [e1]; clear e1
      have A1 : AR S.1 ((up V 1 f) 0) := by rw [up_ne _ _ (by omega)]; exact M.1
      have mem1 := X3_isMember_ (G := G) (h := h) (F := F) D A1 (look_ltF (R := S.1.1) (x := a))
      rw [← rk_or, isM_memb] at mem1
      have hismem : (memb S.1.1 a).isSome = S.1.1[i].2.1.isNone := by
        unfold memb
        rw [hk]
        dsimp only
        rw [hri]
        dsimp only
        cases hg : S.1.1[i].2.1 with
        | none => simp
        | some _ => simp
      refine ⟨cax mk6, mem1.use ?_⟩
      rw [hismem, erk]
      refine ⟨cax mk6, (X3_takesOut_ (W := S.1.1.map rf) (i := i) D A1.1 (by rw [List.getElem?_map, hri]; rfl)).rv ?_⟩
      rintro h2 - - ⟨V2, e2, v2, R2, H2, O2⟩
      rw [e2]; clear e2
      rw [← map_ers] at R2
      refine ⟨_, gfx mk6 rfl rfl, _, _, 0, mk4 D, ix_nI (j := 0) (by omega) (by omega), ?_⟩
      rw [set4 D]
      have hrow : ∀ k, k < 6 → upd (V2 4) 0 b k = rf (i2n b, S.1.1[i].2.1, S.1.1[i].2.2) k := by
        refine lt6 ?_ ?_ ?_ ?_ ?_ ?_
        · show _ = nI (i2n b)
          rw [upd_at, eb]
        · rw [upd_ne _ _ (by omega), O2 1 (by omega)]; rfl
        · rw [upd_ne _ _ (by omega), O2 2 (by omega)]; rfl
        · rw [upd_ne _ _ (by omega), O2 3 (by omega)]; rfl
        · rw [upd_ne _ _ (by omega), O2 4 (by omega)]; rfl
        · rw [upd_ne _ _ (by omega), O2 5 (by omega)]; rfl
      have hV0 : ∀ f, (up V2 4 f) 0 = V2 0 := fun f => up_ne _ _ (by omega)
      have hV4 : ∀ f, (up V2 4 f) 4 = f := fun f => up_at _ _ _
      have hlers : (S.1.1.eraseIdx i).length ≤ 23 := by rw [List.length_eraseIdx, if_pos hil]; omega
      have hkers : ∀ q ∈ S.1.1.eraseIdx i, q.1 < 676 := fun q hq => (W.1.2.1 q (mem_ers hq)).1
      obtain ⟨p1, p2⟩ := plc_pre (R := S.1.1.eraseIdx i) (O := upd (V2 4) 0 b) (n := i2n b) (srt_ers W.1.1) hkers (by omega) (hrow 0 (by omega))
      have hp := plc_le (S.1.1.eraseIdx i) (i2n b)
      refine ⟨cax mk6, (X3_putsIn_ (W := (S.1.1.eraseIdx i).map rf) (p := plc (S.1.1.eraseIdx i) (i2n b)) D (by rw [hV0]; exact R2) (by rw [List.length_map]; exact hlers) (by rw [List.length_map]; exact hp) (by rw [hV4]; exact p1) (by rw [hV4]; exact p2)).ri ?_⟩
      rintro _ h3 - - ⟨rfl, V3, e3, v3, R3, H3⟩
      rw [e3]; clear e3
      rw [hV4] at R3
      rw [hV0] at H3
      have R3' := RA_ins (r := (i2n b, S.1.1[i].2.1, S.1.1[i].2.2)) R3 hrow
      have vv : V04 (up V 1 f) V3 := (v2.up4 _).tr v3
      have hh : hd4 ((up V 1 f) 0) (V3 0) := H2.tr H3
      have hh0 : hd4 (V 0) (V3 0) := by
        have e0 : (up V 1 f) 0 = V 0 := up_ne _ _ (by omega)
        rw [e0] at hh
        exact hh
      have hlen : (insR (S.1.1.eraseIdx i) (i2n b, S.1.1[i].2.1, S.1.1[i].2.2)).length = S.1.1.length := by
        rw [insR_len, List.length_eraseIdx, if_pos hil]; omega
      have hren : renA S a b = (nI (plc (S.1.1.eraseIdx i) (i2n b)), beS S (renS S.1 i (i2n a) (i2n b))) := by
        unfold renA
        rw [hk]
        dsimp only
        rw [if_pos hin, if_neg (fun e => c3 e.symm), hnb]
        rfl
      have hrenS : renS S.1 i (i2n a) (i2n b) = ((insR (S.1.1.eraseIdx i) (i2n b, S.1.1[i].2.1, S.1.1[i].2.2)).map (gvn S.1.1[i].2.1.isNone (i2n a) (i2n b)), S.1.2) := by
        unfold renS
        rw [hri]
        dsimp only
        rw [map_insR (gvn_1 _ _ _)]
        congr 2
        unfold gvn
        rw [if_neg]
        rintro ⟨q1, q2⟩
        cases hg : S.1.1[i].2.1 with
        | none => rw [hg] at q2; cases q2
        | some _ => rw [hg] at q1; cases q1
      have hgiv : ∀ q ∈ insR (S.1.1.eraseIdx i) (i2n b, S.1.1[i].2.1, S.1.1[i].2.2), ∀ y, q.2.1 = some y → y < 676 := by
        intro q hq y hy
        rcases mem_insR.mp hq with rfl | hq
        · exact (W.1.2.1 _ (List.mem_of_getElem? hri)).2.1 y hy
        · exact (W.1.2.1 q (mem_ers hq)).2.1 y hy
      generalize insR (S.1.1.eraseIdx i) (i2n b, S.1.1[i].2.1, S.1.1[i].2.2) = R4 at *
      refine ren77_ D M W (f := f) (i := i) (a := a) (b := b) (R4 := R4) (q := nI (plc (S.1.1.eraseIdx i) (i2n b))) (m := S.1.1[i].2.1.isNone) ff hea.1 hea.2 eb hgiv (by omega) hren hrenS R4.length 0 V3 rfl (Nat.zero_le _) vv hh0 (by rw [List.take_zero, List.drop_zero]; exact R3')
  · cases hk : look S.1.1 a with
    | none => exact absurd ((rk_none hl24).mpr hk) c1
    | some i =>
      have hin := (bI_ne0 _).mp c2
      refine PM.no M ?_
      unfold renA
      rw [hk]
      dsimp only
      have : (look S.1.1 b).isSome = true := by
        cases hkb : look S.1.1 b with
        | none => exact absurd ((rk_none hl24).mpr hkb) c4
        | some _ => rfl
      rw [if_pos hin, if_neg (fun e => c3 e.symm), this]
      rfl
  · cases hk : look S.1.1 a with
    | none => exact absurd ((rk_none hl24).mpr hk) c1
    | some i =>
      have hin := (bI_ne0 _).mp c2
      refine PM.no M ?_
      unfold renA
      rw [hk]
      dsimp only
      rw [if_pos hin, if_pos (Classical.not_not.mp c3).symm]
  · cases hk : look S.1.1 a with
    | none => exact absurd ((rk_none hl24).mpr hk) c1
    | some i =>
      refine PM.no M ?_
      unfold renA
      rw [hk, (bI_0 _).mp (Classical.not_not.mp c2)]
      rfl
  · have hk := (rk_none hl24).mp (Classical.not_not.mp c1)
    exact PM.no M (by unfold renA; rw [hk])
end D33
