/-! SPECS 36: the model reads its pad -/
set_option maxRecDepth 100000
/-- the numbers that a reading leaves -/
def FK (F F' : Nat → Int32) : Prop := F' 0 = F 0 ∧ F' 1 = F 1 ∧ F' 2 = F 2
theorem FK.rf {F : Nat → Int32} : FK F F := ⟨rfl, rfl, rfl⟩
theorem FK.tr {F F1 F2 : Nat → Int32} (a : FK F F1) (b : FK F1 F2) : FK F F2 := ⟨b.1.trans a.1, b.2.1.trans a.2.1, b.2.2.trans a.2.2⟩
theorem FK.up {F F1 : Nat → Int32} (a : FK F F1) {k : Nat} (x : Int32) (hk : 2 < k) : FK F (upd F1 k x) := ⟨by rw [upd_ne _ _ (by omega)]; exact a.1, by rw [upd_ne _ _ (by omega)]; exact a.2.1, by rw [upd_ne _ _ (by omega)]; exact a.2.2⟩
/-- the pad as the model has it -/
def PD (V : Nat → Nat → Int32) (F : Nat → Int32) (P : List Nat) : Prop := F 2 = nI P.length ∧ P.length ≤ 60 ∧ ∀ (i c : Nat), P[i]? = some c → c < 65536 ∧ V 5 i = nI c
theorem PD.fk {V : Nat → Nat → Int32} {F F' : Nat → Int32} {P : List Nat} (p : PD V F P) (k : FK F F') : PD V F' P := ⟨k.2.2.trans p.1, p.2⟩
section D36
variable {G : g_} {ad : Nat → Nat} {h : hp_} {V : Nat → Nat → Int32} {F : Nat → Int32} {P : List Nat} {pl : Nat}
theorem X3_isHere_ {lo hi : Nat} (D : MD ad) (p : PD V F P) (hF : F 3 = nI pl) (hpl : pl ≤ P.length) (h1 : lo < 65536) (h2 : hi < 65536) : QE G M_X3_isHere [.ref (ad 6), .int (nI lo), .int (nI hi)] (mk_ ad h V F) (bI (see P pl lo hi)) := by
  obtain ⟨p1, p2, p3⟩ := p
  refine e_X3_isHere ⟨_, gfx mk6 rfl rfl, _, gfx mk6 rfl rfl, ?_⟩
  rw [hF, p1]
  refine ⟨fun c => ⟨nI_b0, _, rfl, ?_, rfl⟩, fun c => ⟨_, gfx mk6 rfl rfl, _, gfx mk6 rfl rfl, _, _, pl, mk5 D, ?_, ?_⟩⟩
  · have := (nI_le' (by omega) (by omega)).mp c
    unfold see
    rw [List.getElem?_eq_none (by omega)]
    rfl
  · rw [hF]
    have : pl < P.length := by
      rcases Nat.lt_or_ge pl P.length with q | q
      · exact q
      · exact absurd ((nI_le' (by omega) (by omega)).mpr q) c
    exact ix_nI (by omega) (by omega)
  · have hlt' : pl < P.length := by
      rcases Nat.lt_or_ge pl P.length with q | q
      · exact q
      · exact absurd ((nI_le' (by omega) (by omega)).mpr q) c
    have hx : P[pl]? = some P[pl] := List.getElem?_eq_getElem hlt'
    obtain ⟨c1, c2⟩ := p3 pl _ hx
    rw [c2]
    refine X3_in_.use ?_
    have e : decide ((nI lo).toInt64.toInt ≤ (nI P[pl]).toInt64.toInt ∧ (nI P[pl]).toInt64.toInt ≤ (nI hi).toInt64.toInt) = see P pl lo hi := by
      unfold see
      rw [hx]
      refine decide_eq_decide.mpr ?_
      rw [Int32.toInt_toInt64, Int32.toInt_toInt64, Int32.toInt_toInt64, nI_toInt (by omega), nI_toInt (by omega), nI_toInt (by omega)]
      omega
    rw [e]
    refine ⟨fun c => ⟨nI_b0, _, rfl, ?_, rfl⟩, fun c => ⟨nI_b1, _, rfl, ?_, rfl⟩⟩
    · rw [(bI_0 _).mp c]; rfl
    · rw [(bI_ne0 _).mp c]; rfl
theorem X3_takes_ {c : Nat} (D : MD ad) (p : PD V F P) (hF : F 3 = nI pl) (hpl : pl ≤ P.length) (h1 : c < 65536) : Qi G M_X3_takes [.ref (ad 6), .int (nI c)] (mk_ ad h V F) (bI (see P pl c c)) (mk_ ad h V (upd F 3 (nI (if see P pl c c then pl + 1 else pl)))) := by
  refine e_X3_takes ⟨cax mk6, (X3_isHere_ D p hF hpl h1 h1).use ⟨_, gfx mk6 rfl rfl, ?_⟩⟩
  rw [hF]
  refine ⟨fun c => ⟨_, p_sp D, bI_nar _, _, rfl, rfl, ?_⟩, fun c => ⟨_, p_sp D, bI_nar _, _, rfl, rfl, ?_⟩⟩
  · rw [(bI_0 _).mp c, Int32.add_zero]; rfl
  · rw [(bI_ne0 _).mp c, show nI pl + 1 = nI (pl + 1) from nI_add' pl 1]; rfl
/-- how the reading of a piece ends -/
def PP (ad : Nat → Nat) (h : hp_) (V : Nat → Nat → Int32) (F : Nat → Int32) (res : Option Nat × Nat) : o_ → hp_ → Prop := RI fun y h' => y = bI res.1.isSome ∧ ∃ F', h' = mk_ ad h V F' ∧ FK F F' ∧ F' 5 = F 5 ∧ F' 3 = nI res.2 ∧ ∀ a, res.1 = some a → F' 4 = nI a
theorem upd_5 {F : Nat → Int32} {k : Nat} {x : Int32} (h : k ≠ 5) : upd F k x 5 = F 5 := upd_ne _ _ (by omega)
theorem X3_readsName_ (D : MD ad) (p : PD V F P) (hF : F 3 = nI pl) (hpl : pl ≤ P.length) : Do_ G M_X3_readsName [.ref (ad 6)] (mk_ ad h V F) (PP ad h V F (pName P pl)) := by
  have p2 := p.2.1
  refine e_X3_readsName ⟨_, p_nu D, ?_⟩
  have pA := p.fk (FK.rf.up (k := 4) 0 (by omega))
  have step : ∀ (F1 : Nat → Int32) (q : Nat), PD V F1 P → F1 3 = nI q → q ≤ P.length → ∀ (l1 : Int32) (Q : o_ → hp_ → Prop), ¬ 2 ≤ l1 →
      (letA P q = none → (narrow .boolean (.int 0) = .int 0 ∧ Q (.inl (some (.int 0))) (mk_ ad h V F1))) → (∀ a, letA P q = some a → ∀ z, z = 26 * F1 4 + nI (a + 65) - 65 → Go_ G M_X3_readsName 7 [some (.ref (ad 6)), some (.int (l1 + 1))] [] (mk_ ad h V (upd (upd F1 4 z) 3 (nI (q + 1)))) Q) →
      Go_ G M_X3_readsName 7 [some (.ref (ad 6)), some (.int l1)] [] (mk_ ad h V F1) Q := by
    intro F1 q pF hq hql l1 Q hl n1 n2
    refine w_X3_readsName_7 ⟨fun c => absurd c hl, fun _ => ⟨cax mk6, (X3_isHere_ (lo := 65) (hi := 90) D pF hq hql (by omega) (by omega)).use ⟨fun c => ?_, fun c => ?_⟩⟩⟩
    · obtain ⟨x, hx, h65, e⟩ := letA_see.1 ((bI_ne0 _).mp c)
      have hxl := (List.getElem?_eq_some_iff.mp hx).1
      obtain ⟨c1, c2⟩ := pF.2.2 q x hx
      refine ⟨_, gfx mk6 rfl rfl, _, gfx mk6 rfl rfl, _, gfx mk6 rfl rfl, _, _, q, mk5 D, ?_, _, p_nu D, _, gfx mk6 rfl rfl, _, p_sp D, ?_⟩
      · rw [hq]; exact ix_nI (by omega) (by omega)
      · rw [upd_ne _ _ (by omega), hq, show nI q + 1 = nI (q + 1) from nI_add' q 1]
        refine n2 _ e _ ?_
        rw [c2, show x - 65 + 65 = x from by omega]
    · exact n1 (letA_see.2 ((bI_0 _).mp (Classical.not_not.mp c)))
  refine step _ pl pA (by rw [upd_ne _ _ (by omega)]; exact hF) hpl 0 _ (by decide) (fun hn => ⟨nI_b0, _, rfl, ?_, _, rfl, FK.rf.up _ (by omega), upd_5 (by omega), ?_, fun a ha => ?_⟩) (fun a ha z hz => ?_)
  · unfold pName; rw [hn]; rfl
  · unfold pName; rw [hn, upd_ne _ _ (by omega)]; exact hF
  · unfold pName at ha; rw [hn] at ha; cases ha
  · have hal := letA_lt ha
    have hz1 : z = nI a := by
      rw [hz, upd_at]
      have : (26 : Int32) * 0 + nI (a + 65) - 65 = nI (a + 65) - 65 := by simp
      rw [this]
      exact nI_sub' (a := a + 65) (b := 65) (by omega)
    subst hz1
    have pB : PD V (upd (upd (upd F 4 0) 4 (nI a)) 3 (nI (pl + 1))) P := p.fk (((FK.rf.up (k := 4) _ (by omega)).up (k := 4) _ (by omega)).up (k := 3) _ (by omega))
    refine step _ (pl + 1) pB (upd_at _ _ _) hal.2 (0 + 1) _ (by decide) (fun hn => ⟨nI_b0, _, rfl, ?_, _, rfl, ((FK.rf.up _ (by omega)).up _ (by omega)).up _ (by omega), ?_, ?_, fun b hb => ?_⟩) (fun b hb z hz => ?_)
    · unfold pName; rw [ha]; dsimp only; rw [hn]; rfl
    · rw [upd_5 (by omega), upd_5 (by omega), upd_5 (by omega)]
    · unfold pName; rw [ha]; dsimp only; rw [hn, upd_at]
    · unfold pName at hb; rw [ha] at hb; dsimp only at hb; rw [hn] at hb; cases hb
    · have hbl := letA_lt hb
      have hz2 : z = nI (26 * a + b) := by
        rw [hz, upd_ne _ _ (by omega), upd_at, show (26 : Int32) = nI 26 from rfl, nI_mul', nI_add']
        rw [show 26 * a + (b + 65) = 26 * a + b + 65 from by omega]
        exact nI_sub' (a := 26 * a + b + 65) (b := 65) (by omega)
      subst hz2
      refine w_X3_readsName_7 ⟨fun _ => ⟨nI_b1, _, rfl, ?_, _, rfl, ((((FK.rf.up _ (by omega)).up _ (by omega)).up _ (by omega)).up _ (by omega)).up _ (by omega), ?_, ?_, fun c hc => ?_⟩, fun c => absurd (by decide) c⟩
      · unfold pName; rw [ha]; dsimp only; rw [hb]; rfl
      · rw [upd_5 (by omega), upd_5 (by omega), upd_5 (by omega), upd_5 (by omega), upd_5 (by omega)]
      · unfold pName; rw [ha]; dsimp only; rw [hb, upd_at]
      · unfold pName at hc; rw [ha] at hc; dsimp only at hc; rw [hb] at hc
        rw [upd_ne _ _ (by omega), upd_at]
        rw [← Option.some.inj hc]
theorem X3_readsNumber_ {least most : Nat} (D : MD ad) (p : PD V F P) (hF : F 3 = nI pl) (hpl : pl ≤ P.length) (hl : least < 10) (hmo : most ≤ 9999) (h9 : 9 ≤ most) : Do_ G M_X3_readsNumber [.ref (ad 6), .int (nI least), .int (nI most)] (mk_ ad h V F) (PP ad h V F (pNum P (48 + least) most pl)) := by
  have p2 := p.2.1
  have key : ∀ (f q v : Nat) (F1 : Nat → Int32), P.length - q = f → q ≤ P.length → v ≤ most → FK F F1 → F1 5 = F 5 → F1 3 = nI q → F1 4 = nI v → pNum P (48 + least) most pl = (some (nlp P most f q v).1, (nlp P most f q v).2) →
      Go_ G M_X3_readsNumber 41 [some (.ref (ad 6)), none, some (.int (nI most))] [] (mk_ ad h V F1) (PP ad h V F (pNum P (48 + least) most pl)) := by
    intro f
    induction f with
    | zero =>
      intro q v F1 hf hq hv k1 k5 k3 k4 e
      have hs : see P q 48 57 = false := by
        cases hh : see P q 48 57 with
        | false => rfl
        | true => have := see_lt hh; omega
      have fin : narrow .boolean (.int 1) = .int 1 ∧ PP ad h V F (pNum P (48 + least) most pl) (.inl (some (.int 1))) (mk_ ad h V F1) := by
        rw [e]
        exact ⟨nI_b1, _, rfl, rfl, F1, rfl, k1, k5, k3, fun a ha => by rw [← Option.some.inj ha]; exact k4⟩
      refine w_X3_readsNumber_41 ⟨_, gfx mk6 rfl rfl, fun _ => fin, fun c => ⟨cax mk6, (X3_isHere_ (lo := 48) (hi := 57) D (p.fk k1) k3 hq (by omega) (by omega)).use ⟨fun _ => fin, fun c => ?_⟩⟩⟩
      rw [hs] at c
      exact absurd rfl c
    | succ f ih =>
      intro q v F1 hf hq hv k1 k5 k3 k4 e
      have hx : P[q]? = some P[q] := List.getElem?_eq_getElem (by omega)
      obtain ⟨c1, c2⟩ := p.2.2 q _ hx
      have fin : (nlp P most (f + 1) q v = (v, q)) → narrow .boolean (.int 1) = .int 1 ∧ PP ad h V F (pNum P (48 + least) most pl) (.inl (some (.int 1))) (mk_ ad h V F1) := by
        intro e2
        rw [e, e2]
        exact ⟨nI_b1, _, rfl, rfl, F1, rfl, k1, k5, k3, fun a ha => by rw [← Option.some.inj ha]; exact k4⟩
      have ixq : ix_ (F1 3) 60 = some q := by rw [k3]; exact ix_nI (by omega) (by omega)
      by_cases hgo : 0 < v ∧ (48 ≤ P[q] ∧ P[q] ≤ 57) ∧ 10 * v + P[q] - 48 ≤ most
      · have e' : pNum P (48 + least) most pl = (some (nlp P most f (q + 1) (10 * v + P[q] - 48)).1, (nlp P most f (q + 1) (10 * v + P[q] - 48)).2) := by
          rw [e]
          have : nlp P most (f + 1) q v = nlp P most f (q + 1) (10 * v + P[q] - 48) := by
            conv => lhs; unfold nlp
            rw [hx]
            simp only [if_pos hgo]
          rw [this]
        have hs : see P q 48 57 = true := by
          unfold see; rw [hx]; exact decide_eq_true hgo.2.1
        have e1 : (10 : Int32) * F1 4 + V 5 q - 48 = nI (10 * v + P[q] - 48) := by
          rw [k4, c2, show (10 : Int32) = nI 10 from rfl, nI_mul', nI_add']
          exact nI_sub' (b := 48) (by omega)
        refine w_X3_readsNumber_41 ⟨_, gfx mk6 rfl rfl, fun c => ?_, fun _ => ⟨cax mk6, (X3_isHere_ (lo := 48) (hi := 57) D (p.fk k1) k3 hq (by omega) (by omega)).use ⟨fun c => ?_, fun _ => ⟨_, gfx mk6 rfl rfl, _, gfx mk6 rfl rfl, _, gfx mk6 rfl rfl, _, _, q, mk5 D, ixq, fun c => ?_, fun _ => ⟨_, gfx mk6 rfl rfl, _, gfx mk6 rfl rfl, _, gfx mk6 rfl rfl, _, _, q, mk5 D, ixq, _, p_nu D, _, gfx mk6 rfl rfl, _, p_sp D, ?_⟩⟩⟩⟩⟩
        · rw [k4] at c
          have := (nI_le' (a := v) (b := 0) (by omega) (by omega)).mp c
          omega
        · rw [hs] at c; exact absurd c (by decide)
        · rw [e1] at c
          have := (nI_lt' (by omega) (by omega)).mp c
          omega
        · rw [e1]
          refine ih (q + 1) _ _ (by omega) (by omega) hgo.2.2 ((k1.up _ (by omega)).up _ (by omega)) ?_ ?_ ?_ e'
          · rw [upd_5 (by omega), upd_5 (by omega)]; exact k5
          · rw [upd_at, upd_ne _ _ (by omega), k3]
            exact nI_add' q 1
          · rw [upd_ne _ _ (by omega), upd_at]
      · have e2 : nlp P most (f + 1) q v = (v, q) := by
          conv => lhs; unfold nlp
          rw [hx]
          simp only [if_neg hgo]
        refine w_X3_readsNumber_41 ⟨_, gfx mk6 rfl rfl, fun _ => fin e2, fun cv => ⟨cax mk6, (X3_isHere_ (lo := 48) (hi := 57) D (p.fk k1) k3 hq (by omega) (by omega)).use ⟨fun _ => fin e2, fun cs => ⟨_, gfx mk6 rfl rfl, _, gfx mk6 rfl rfl, _, gfx mk6 rfl rfl, _, _, q, mk5 D, ixq, fun _ => fin e2, fun c => ?_⟩⟩⟩⟩
        exfalso
        have hv0 : 0 < v := by
          rcases Nat.eq_zero_or_pos v with z | z
          · rw [k4, z] at cv; exact absurd (by decide) cv
          · exact z
        have hs : 48 ≤ P[q] ∧ P[q] ≤ 57 := by
          have hs := (bI_ne0 _).mp cs
          unfold see at hs
          rw [hx] at hs
          exact of_decide_eq_true hs
        have e1 : (10 : Int32) * F1 4 + V 5 q - 48 = nI (10 * v + P[q] - 48) := by
          rw [k4, c2, show (10 : Int32) = nI 10 from rfl, nI_mul', nI_add']
          exact nI_sub' (b := 48) (by omega)
        rw [e1] at c
        refine hgo ⟨hv0, hs, ?_⟩
        rcases Nat.lt_or_ge most (10 * v + P[q] - 48) with z | z
        · exact absurd ((nI_lt' (by omega) (by omega)).mpr z) c
        · exact z
  refine e_X3_readsNumber ⟨cax mk6, ?_⟩
  rw [show (48 : Int32) + nI least = nI (48 + least) from nI_add' 48 least]
  refine (X3_isHere_ (hi := 57) D p hF hpl (by omega) (by omega)).use ⟨fun c => ?_, fun c => ?_⟩
  · have hs := (bI_ne0 _).mp c
    have hlp := see_lt hs
    have hx : P[pl]? = some P[pl] := List.getElem?_eq_getElem hlp
    have hr : 48 + least ≤ P[pl] ∧ P[pl] ≤ 57 := by
      unfold see at hs
      rw [hx] at hs
      exact of_decide_eq_true hs
    obtain ⟨c1, c2⟩ := p.2.2 pl _ hx
    have e : pNum P (48 + least) most pl = (some (nlp P most (P.length - (pl + 1)) (pl + 1) (P[pl] - 48)).1, (nlp P most (P.length - (pl + 1)) (pl + 1) (P[pl] - 48)).2) := by
      unfold pNum
      rw [hx]
      simp only [if_pos hr]
    refine ⟨_, gfx mk6 rfl rfl, _, gfx mk6 rfl rfl, _, _, pl, mk5 D, ?_, _, p_nu D, _, gfx mk6 rfl rfl, _, p_sp D, ?_⟩
    · rw [hF]; exact ix_nI (by omega) (by omega)
    · refine key (P.length - (pl + 1)) (pl + 1) (P[pl] - 48) _ rfl hlp (by omega) ((FK.rf.up _ (by omega)).up _ (by omega)) ?_ ?_ ?_ e
      · rw [upd_5 (by omega), upd_5 (by omega)]
      · rw [upd_at, upd_ne _ _ (by omega), hF]
        exact nI_add' pl 1
      · rw [upd_ne _ _ (by omega), upd_at, c2]
        exact nI_sub' (b := 48) (by omega)
  · have hs := (bI_0 _).mp (Classical.not_not.mp c)
    have e : pNum P (48 + least) most pl = (none, pl) := by
      unfold pNum
      unfold see at hs
      cases hx : P[pl]? with
      | none => rfl
      | some x =>
        rw [hx] at hs
        simp only [if_neg (of_decide_eq_false hs)]
    rw [e]
    exact ⟨nI_b0, _, rfl, rfl, F, rfl, FK.rf, rfl, hF, fun a ha => by cases ha⟩
theorem dAdd_make {σ : sg_} {t : Nat × Nat × Nat} (ok : okA t) (h : t.2.1 ≠ 0) : dAdd σ (nI t.1) (nI t.2.1) (nI t.2.2) = makeS σ t := by
  have h2 : 1 ≤ t.2.1 ∧ t.2.1 ≤ 40 ∧ t.2.2 ≤ 9999 := by
    rcases ok.2 with q | q
    · exact absurd q.1 h
    · exact q
  have h1 := ok.1
  have i : ∀ n, n < 2 ^ 31 → i2n (nI n) = n := fun n hn => by
    unfold i2n; rw [nI_toInt hn]; simp
  unfold dAdd makeS
  rw [if_neg h, if_pos, i _ (by omega), i _ (by omega), i _ (by omega)]
  unfold inr
  rw [decide_eq_true ⟨nI_pos' (by omega), (nI_le' (b := 675) (by omega) (by omega)).mpr (by omega)⟩, decide_eq_true ⟨(nI_le' (a := 1) (by omega) (by omega)).mpr (by omega), (nI_le' (b := 40) (by omega) (by omega)).mpr (by omega)⟩, decide_eq_true ⟨nI_pos' (by omega), (nI_le' (b := 9999) (by omega) (by omega)).mpr (by omega)⟩]
  rfl
theorem dAli_make {σ : sg_} {t : Nat × Nat × Nat} (ok : okA t) (h : t.2.1 = 0) : dAli σ (nI t.1) (nI t.2.2) = makeS σ t := by
  have h2 : t.2.2 < 676 := by rcases ok.2 with q | q <;> omega
  have h1 := ok.1
  have i : ∀ n, n < 2 ^ 31 → i2n (nI n) = n := fun n hn => by
    unfold i2n; rw [nI_toInt hn]; simp
  unfold dAli makeS
  rw [if_pos h]
  cases hm : memb σ.1 (nI t.2.2) with
  | none => unfold aliasS; rw [hm]
  | some r =>
    dsimp only
    rw [if_pos, i _ (by omega), i _ (by omega)]
    unfold inr
    exact decide_eq_true ⟨nI_pos' (by omega), (nI_le' (b := 675) (by omega) (by omega)).mpr (by omega)⟩
theorem bI_some {α : Type} (a : α) : ¬ bI (some a).isSome = 0 := by
  show ¬ (1 : Int32) = 0
  decide
/-- how the reading of an addition ends -/
def PQ (ad : Nat → Nat) (h : hp_) (V : Nat → Nat → Int32) (F : Nat → Int32) (σ : sg_) (b : Bool) (res : Option (Nat × Nat × Nat) × Nat) : o_ → hp_ → Prop := RI fun y h' => y = bI res.1.isSome ∧ ∃ V' F', h' = mk_ ad h V' F' ∧ FK F F' ∧ F' 3 = nI res.2 ∧ V04 V V' ∧ (b = false → V' = V) ∧ (b = true → ∀ t, res.1 = some t → F' 5 = (makeS σ t).1 ∧ AR (makeS σ t).2 (V' 0))
theorem X3_readsAddition_ {b : Bool} {σ : sg_} (D : MD ad) (p : PD V F P) (hF : F 3 = nI pl) (hpl : pl ≤ P.length) (W : WS σ) (A : AR σ (V 0)) : Do_ G M_X3_readsAddition [.ref (ad 6), .int (bI b)] (mk_ ad h V F) (PQ ad h V F σ b (pAdd P pl)) := by
  have hnm := pName_ok hpl
  have okp := (pAdd_ok hpl).2.2
  refine e_X3_readsAddition ⟨cax mk6, (X3_readsName_ D p hF hpl).ri ?_⟩
  rintro _ h1 - - ⟨rfl, F1, e1, k1, -, k3, k4⟩
  rw [e1]; clear e1
  have eP : pName P pl = ((pName P pl).1, (pName P pl).2) := rfl
  generalize (pName P pl).1 = o1 at *
  generalize (pName P pl).2 = q1 at *
  obtain ⟨hn1, hn2, hn3⟩ := hnm
  cases o1 with
  | none =>
    refine ⟨fun c => absurd rfl c, fun _ => ⟨nI_b0, ?_⟩⟩
    have ea : pAdd P pl = (none, q1) := by unfold pAdd; rw [eP]
    rw [ea]
    exact ⟨_, rfl, rfl, V, F1, rfl, k1, k3, V04.rfl', fun _ => rfl, fun _ t ht => by cases ht⟩
  | some nm =>
    have kn := k4 nm rfl
    have p1 := p.fk k1
    refine ⟨fun _ => ⟨_, gfx mk6 rfl rfl, cax mk6, (X3_takes_ (c := 62) D p1 k3 hn2 (by omega)).use ?_⟩, fun c => absurd (bI_some _) c⟩
    rw [kn]
    refine ⟨fun c1 => ⟨cax mk6, ?_⟩, fun c1 => ⟨cax mk6, ?_⟩⟩
    · have s1 := (bI_0 _).mp c1
      rw [s1]
      have k2 := k1.up (k := 3) (nI (if false = true then q1 + 1 else q1)) (by omega)
      have p2 := p.fk k2
      have h3 : (upd F1 3 (nI (if false = true then q1 + 1 else q1))) 3 = nI q1 := upd_at _ _ _
      refine (X3_takes_ (c := 61) D p2 h3 hn2 (by omega)).use ⟨fun c2 => ⟨nI_b0, ?_⟩, fun c2 => ⟨cax mk6, ?_⟩⟩
      · have s2 := (bI_0 _).mp c2
        have ea : pAdd P pl = (none, q1) := by unfold pAdd; rw [eP]; simp only [s1, s2]; rfl
        rw [ea]
        refine ⟨_, rfl, rfl, V, _, rfl, k2.up _ (by omega), ?_, V04.rfl', fun _ => rfl, fun _ t ht => by cases ht⟩
        rw [upd_at, s2]; rfl
      · have s2 := (bI_ne0 _).mp c2
        have hq1 := see_lt s2
        rw [s2]
        have k5 := k2.up (k := 3) (nI (if true = true then q1 + 1 else q1)) (by omega)
        have p3 := p.fk k5
        have h3 : (upd (upd F1 3 (nI (if false = true then q1 + 1 else q1))) 3 (nI (if true = true then q1 + 1 else q1))) 3 = nI (q1 + 1) := upd_at _ _ _
        refine (X3_readsNumber_ (least := 1) (most := 40) D p3 h3 hq1 (by omega) (by omega) (by omega)).ri ?_
        rintro _ h2 - - ⟨rfl, F3, e3, f1, -, f3, f4⟩
        rw [e3]; clear e3
        have hno := pNum_ok (X := P) (least := 49) (most := 40) (pl := q1 + 1) hq1 (by omega) (by omega)
        have eN : pNum P 49 40 (q1 + 1) = ((pNum P (48 + 1) 40 (q1 + 1)).1, (pNum P (48 + 1) 40 (q1 + 1)).2) := rfl
        have f3 : F3 3 = nI (pNum P 49 40 (q1 + 1)).2 := f3
        have f4 : ∀ a, (pNum P 49 40 (q1 + 1)).1 = some a → F3 4 = nI a := f4
        have hg : ∀ x, x = (pNum P (48 + 1) 40 (q1 + 1)).1 → x = (pNum P 49 40 (q1 + 1)).1 := fun x hx => hx
        rw [show pNum P (48 + 1) 40 (q1 + 1) = pNum P 49 40 (q1 + 1) from rfl] at *
        generalize (pNum P 49 40 (q1 + 1)).1 = o2 at *
        generalize (pNum P 49 40 (q1 + 1)).2 = q2 at *
        obtain ⟨hm1, hm2, hm3⟩ := hno
        have kk := k5.tr f1
        cases o2 with
        | none =>
          refine ⟨fun c => absurd rfl c, fun _ => ⟨nI_b0, ?_⟩⟩
          have ea : pAdd P pl = (none, q2) := by unfold pAdd; rw [eP]; simp only [s1, s2, eN]; rfl
          rw [ea]
          exact ⟨_, rfl, rfl, V, F3, rfl, kk, f3, V04.rfl', fun _ => rfl, fun _ t ht => by cases ht⟩
        | some ln =>
          have kl := f4 ln rfl
          obtain ⟨hl1, hl2⟩ := hm3 ln rfl
          refine ⟨fun _ => ⟨_, gfx mk6 rfl rfl, _, p_nu D, cax mk6, ?_⟩, fun c => absurd (bI_some _) c⟩
          have k6 := kk.up (k := 4) 0 (by omega)
          have p4 := p.fk k6
          have h4 : (upd F3 4 0) 3 = nI q2 := by rw [upd_ne _ _ (by omega)]; exact f3
          refine (X3_takes_ (c := 44) D p4 h4 hm2 (by omega)).use ⟨fun c3 => ⟨fun z => absurd z (by decide), fun _ => ⟨fun cb => ?_, fun cb => ?_⟩⟩, fun c3 => ⟨cax mk6, ?_⟩⟩
          · have s3 := (bI_0 _).mp c3
            have hb := (bI_0 _).mp cb
            have ea : pAdd P pl = (some (nm, ln, 0), q2) := by unfold pAdd; rw [eP]; simp only [s1, s2, eN, s3]; rfl
            rw [ea]
            refine ⟨_, p_to D, nI_b1, _, rfl, rfl, V, _, rfl, (k6.up _ (by omega)).up _ (by omega), ?_, V04.rfl', fun _ => rfl, (fun z => by rw [hb] at z; cases z)⟩
            rw [upd_ne _ _ (by omega), upd_at, s3]; rfl
          · have s3 := (bI_0 _).mp c3
            have hb := (bI_ne0 _).mp cb
            have ea : pAdd P pl = (some (nm, ln, 0), q2) := by unfold pAdd; rw [eP]; simp only [s1, s2, eN, s3]; rfl
            have okt := okp _ (by rw [ea])
            rw [ea]
            refine ⟨_, gfx mk6 rfl rfl, cax mk6, ?_⟩
            have e4 : (upd (upd F3 4 0) 3 (nI (if see P q2 44 44 = true then q2 + 1 else q2))) 4 = nI 0 := by rw [upd_ne _ _ (by omega), upd_at]; rfl
            rw [e4, kl]
            refine (X3_doAdd_ D W A).ri ?_
            rintro _ h5 - - ⟨rfl, V5, e5, v5, A5⟩
            rw [e5]; clear e5
            rw [show dAdd σ (nI nm) (nI ln) (nI 0) = makeS σ (nm, ln, 0) from dAdd_make (t := (nm, ln, 0)) okt (by show ln ≠ 0; have := hl2 (by omega); omega)] at *
            refine ⟨_, p_to D, nI_b1, _, rfl, rfl, V5, _, rfl, (k6.up _ (by omega)).up _ (by omega), ?_, v5, (fun z => by rw [hb] at z; cases z), fun _ t ht => ?_⟩
            · rw [upd_ne _ _ (by omega), upd_at, s3]; rfl
            · rw [← Option.some.inj ht]
              exact ⟨upd_at _ _ _, A5⟩
          · have s3 := (bI_ne0 _).mp c3
            have hq3 := see_lt s3
            rw [s3]
            have k7 := k6.up (k := 3) (nI (if true = true then q2 + 1 else q2)) (by omega)
            have p5 := p.fk k7
            have h5 : (upd (upd F3 4 0) 3 (nI (if true = true then q2 + 1 else q2))) 3 = nI (q2 + 1) := upd_at _ _ _
            refine (X3_readsNumber_ (least := 0) (most := 9999) D p5 h5 hq3 (by omega) (by omega) (by omega)).ri ?_
            rintro _ h6 - - ⟨rfl, F6, e6, g1, -, g3, g4⟩
            rw [e6]; clear e6
            have hno2 := pNum_ok (X := P) (least := 48) (most := 9999) (pl := q2 + 1) hq3 (by omega) (by omega)
            rw [show pNum P (48 + 0) 9999 (q2 + 1) = pNum P 48 9999 (q2 + 1) from rfl] at *
            have eM : pNum P 48 9999 (q2 + 1) = ((pNum P 48 9999 (q2 + 1)).1, (pNum P 48 9999 (q2 + 1)).2) := rfl
            generalize (pNum P 48 9999 (q2 + 1)).1 = o3 at *
            generalize (pNum P 48 9999 (q2 + 1)).2 = q3 at *
            have kk2 := k7.tr g1
            cases o3 with
            | none =>
              have ea : pAdd P pl = (none, q3) := by unfold pAdd; rw [eP]; simp only [s1, s2, eN, s3, eM]; rfl
              rw [ea]
              refine ⟨fun _ => ⟨fun _ => ⟨_, p_to D, nI_b0, _, rfl, rfl, V, _, rfl, kk2.up _ (by omega), ?_, V04.rfl', fun _ => rfl, fun _ t ht => by cases ht⟩, fun z => absurd rfl z⟩, fun z => absurd rfl z⟩
              rw [upd_ne _ _ (by omega)]; exact g3
            | some mq =>
              have km := g4 mq rfl
              have ea : pAdd P pl = (some (nm, ln, mq), q3) := by unfold pAdd; rw [eP]; simp only [s1, s2, eN, s3, eM]; rfl
              have okt := okp _ (by rw [ea])
              rw [ea]
              refine ⟨fun z => absurd z (bI_some _), fun _ => ⟨fun z => absurd z (by decide), fun _ => ⟨fun cb => ⟨_, p_to D, nI_b1, _, rfl, rfl, V, _, rfl, kk2.up _ (by omega), ?_, V04.rfl', fun _ => rfl, fun z => ?_⟩, fun cb => ⟨_, gfx mk6 rfl rfl, cax mk6, ?_⟩⟩⟩⟩
              · rw [upd_ne _ _ (by omega)]; exact g3
              · rw [(bI_0 _).mp cb] at z; cases z
              · have hb := (bI_ne0 _).mp cb
                rw [km, kl]
                refine (X3_doAdd_ D W A).ri ?_
                rintro _ h5 - - ⟨rfl, V5, e5, v5, A5⟩
                rw [e5]; clear e5
                rw [show dAdd σ (nI nm) (nI ln) (nI mq) = makeS σ (nm, ln, mq) from dAdd_make (t := (nm, ln, mq)) okt (by show ln ≠ 0; have := hl2 (by omega); omega)] at *
                refine ⟨_, p_to D, nI_b1, _, rfl, rfl, V5, _, rfl, kk2.up _ (by omega), ?_, v5, (fun z => by rw [hb] at z; cases z), fun _ t ht => ?_⟩
                · rw [upd_ne _ _ (by omega)]; exact g3
                · rw [← Option.some.inj ht]
                  exact ⟨upd_at _ _ _, A5⟩
    · have s1 := (bI_ne0 _).mp c1
      have hq1 := see_lt s1
      rw [s1]
      have k2 := k1.up (k := 3) (nI (if true = true then q1 + 1 else q1)) (by omega)
      have p2 := p.fk k2
      have h3 : (upd F1 3 (nI (if true = true then q1 + 1 else q1))) 3 = nI (q1 + 1) := upd_at _ _ _
      refine (X3_readsName_ D p2 h3 hq1).ri ?_
      rintro _ h2 - - ⟨rfl, F3, e3, f1, -, f3, f4⟩
      rw [e3]; clear e3
      have hno := pName_ok (X := P) (pl := q1 + 1) hq1
      have eN : pName P (q1 + 1) = ((pName P (q1 + 1)).1, (pName P (q1 + 1)).2) := rfl
      generalize (pName P (q1 + 1)).1 = o2 at *
      generalize (pName P (q1 + 1)).2 = q2 at *
      have kk := k2.tr f1
      cases o2 with
      | none =>
        have ea : pAdd P pl = (none, q2) := by unfold pAdd; rw [eP]; simp only [s1, eN]; rfl
        rw [ea]
        refine ⟨fun _ => ⟨_, p_to D, nI_b0, _, rfl, rfl, V, _, rfl, kk.up _ (by omega), ?_, V04.rfl', fun _ => rfl, fun _ t ht => by cases ht⟩, fun z => absurd rfl z⟩
        rw [upd_ne _ _ (by omega)]; exact f3
      | some x =>
        have kx := f4 x rfl
        have ea : pAdd P pl = (some (nm, 0, x), q2) := by unfold pAdd; rw [eP]; simp only [s1, eN]; rfl
        have okt := okp _ (by rw [ea])
        rw [ea]
        refine ⟨fun z => absurd z (bI_some _), fun _ => ⟨fun cb => ⟨_, p_to D, nI_b1, _, rfl, rfl, V, _, rfl, kk.up _ (by omega), ?_, V04.rfl', fun _ => rfl, fun z => ?_⟩, fun cb => ⟨_, gfx mk6 rfl rfl, cax mk6, ?_⟩⟩⟩
        · rw [upd_ne _ _ (by omega)]; exact f3
        · rw [(bI_0 _).mp cb] at z; cases z
        · have hb := (bI_ne0 _).mp cb
          rw [kx]
          refine (X3_doAlias_ D W A).ri ?_
          rintro _ h5 - - ⟨rfl, V5, e5, v5, A5⟩
          rw [e5]; clear e5
          rw [show dAli σ (nI nm) (nI x) = makeS σ (nm, 0, x) from dAli_make (t := (nm, 0, x)) okt rfl] at *
          refine ⟨_, p_to D, nI_b1, _, rfl, rfl, V5, _, rfl, kk.up _ (by omega), ?_, v5, (fun z => by rw [hb] at z; cases z), fun _ t ht => ?_⟩
          · rw [upd_ne _ _ (by omega)]; exact f3
          · rw [← Option.some.inj ht]
            exact ⟨upd_at _ _ _, A5⟩
end D36
