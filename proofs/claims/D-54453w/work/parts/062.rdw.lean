/-! SPECS 12: the reader's walk -/
set_option maxRecDepth 100000
section D12
variable {G : g_} {h : hp_} {r p pl : Nat} {X : List Nat}
theorem Do_.rxi {m : mt_} {av : List Value} {P P' : Int32 → hp_ → Prop} {E E' : Nat → hp_ → Prop} (k : Do_ G m av h (RX (RI P) E)) (h1 : ∀ x h', hwf h' → hsz h ≤ hsz h' → P x h' → P' x h') (h2 : ∀ q h', hwf h' → hsz h ≤ hsz h' → E q h' → E' q h') : Do_ G m av h (RX (RI P') E') := by
  refine k.mono ?_
  rintro (o | q) h' a1 a2 a3 b
  · obtain ⟨x, b1, b2⟩ := b
    exact ⟨x, b1, h1 x h' a1 a2 b2⟩
  · exact h2 q h' a1 a2 b
theorem Do_.rxn {m : mt_} {av : List Value} {P P' : Nat → hp_ → Prop} {E E' : Nat → hp_ → Prop} (k : Do_ G m av h (RX (RN P) E)) (h1 : ∀ x h', hwf h' → hsz h ≤ hsz h' → P x h' → P' x h') (h2 : ∀ q h', hwf h' → hsz h ≤ hsz h' → E q h' → E' q h') : Do_ G m av h (RX (RN P') E') := by
  refine k.mono ?_
  rintro (o | q) h' a1 a2 a3 b
  · obtain ⟨x, b1, b2⟩ := b
    exact ⟨x, b1, h1 x h' a1 a2 b2⟩
  · exact h2 q h' a1 a2 b
theorem K1.tr {r : Nat} {h h1 h2 : hp_} (x : K1 r h h1) (y : K1 r h1 h2) : K1 r h h2 := fun q e hq z => y q e hq (x q e hq z)
theorem K1.set {r : Nat} {h : hp_} {e : e_} : K1 r h (hset h r e) := fun q e hq z => by rw [hset_ne _ _ hq]; exact z
theorem K1.new {r : Nat} {h : hp_} (hw : hwf h) {e : e_} {n : Nat} : K1 r h (hnew h e n) := fun q e hq z => hnew_old hw z
def RD (h : hp_) (r p pl : Nat) : Prop := hget h r = some (eO 8 [.int (nI pl), .ref p])
theorem SB.k1 {h' : hp_} (S : SB h p X) (R : RD h r p pl) (k : K1 r h h') : SB h' p X := by
  obtain ⟨s1, s2, va, cd, ml, n, f, s3, s4, s5⟩ := S
  exact ⟨s1, s2, va, cd, ml, n, f, k _ _ (hgn s3 R (by simp)) s3, k _ _ (hgn s4 R (by simp)) s4, s5⟩
theorem SB.le {h' : hp_} (S : SB h p X) (k : Le h h') : SB h' p X := by
  obtain ⟨s1, s2, va, cd, ml, n, f, s3, s4, s5⟩ := S
  exact ⟨s1, s2, va, cd, ml, n, f, k _ _ s3, k _ _ s4, s5⟩
theorem X0_inRange_ {x lo hi : Int32} : QE G M_X0_inRange [.int x, .int lo, .int hi] h (bI (decide (lo ≤ x ∧ x ≤ hi))) := by
  refine e_X0_inRange ⟨fun c => ⟨nI_b0, _, rfl, ?_, rfl⟩, fun c => ⟨fun d => ⟨nI_b0, _, rfl, ?_, rfl⟩, fun d => ⟨nI_b1, _, rfl, ?_, rfl⟩⟩⟩
  · rw [decide_eq_false (fun e => Int32.not_lt.mpr e.1 c)]; rfl
  · rw [decide_eq_false (fun e => Int32.not_lt.mpr e.2 d)]; rfl
  · rw [decide_eq_true ⟨Int32.not_lt.mp c, Int32.not_lt.mp d⟩]; rfl
theorem bI_nar (b : Bool) : narrow .boolean (.int (bI b)) = .int (bI b) := by cases b <;> decide +kernel
theorem X8_sees_ {lo hi : Nat} (S : SB h p X) (R : RD h r p pl) (hl : pl ≤ X.length) (h1 : lo < 65536) (h2 : hi < 65536) : QE G M_X8_sees [.ref r, .int (nI lo), .int (nI hi)] h (bI (see X pl lo hi)) := by
  have s2 := S.2.1
  obtain ⟨va, cd, ml, n, f, s3, -⟩ := S.2.2
  have R : hget h r = some (eO 8 [.int (nI pl), .ref p]) := R
  refine e_X8_sees ⟨_, gfx R rfl rfl, _, gfx R rfl rfl, cax s3, (J5_length_ S).use ⟨fun c => ⟨nI_b0, _, rfl, ?_, rfl⟩, fun c => ⟨_, gfx R rfl rfl, _, gfx R rfl rfl, cax s3, ?_⟩⟩⟩
  · have := (nI_le' (by omega) (by omega)).mp c
    unfold see
    rw [List.getElem?_eq_none (by omega)]
    rfl
  · have hlt : pl < X.length := by
      rcases Nat.lt_or_ge pl X.length with q | q
      · exact q
      · exact absurd ((nI_le' (by omega) (by omega)).mpr q) c
    have hx : X[pl]? = some X[pl] := List.getElem?_eq_getElem hlt
    have hc := S.1 pl _ hx
    refine (J5_charAt_ S hx).use (X0_inRange_.use ?_)
    have e : decide (nI lo ≤ nI X[pl] ∧ nI X[pl] ≤ nI hi) = see X pl lo hi := by
      unfold see
      rw [hx]
      refine decide_eq_decide.mpr ?_
      rw [nI_le' (by omega) (by omega), nI_le' (by omega) (by omega)]
    rw [e]
    refine ⟨fun c => ⟨nI_b0, _, rfl, ?_, rfl⟩, fun c => ⟨nI_b1, _, rfl, ?_, rfl⟩⟩
    · rw [(bI_0 _).mp c]; rfl
    · rw [(bI_ne0 _).mp c]; rfl
theorem X8_takes_ {c : Nat} (S : SB h p X) (R : RD h r p pl) (hl : pl ≤ X.length) (h1 : c < 65536) : Do_ G M_X8_takes [.ref r, .int (nI c)] h (RI fun y h' => y = bI (see X pl c c) ∧ RD h' r p (if see X pl c c then pl + 1 else pl) ∧ K1 r h h' ∧ hm h' = hm h) := by
  have R0 : hget h r = some (eO 8 [.int (nI pl), .ref p]) := R
  refine e_X8_takes ⟨cax R0, (X8_sees_ S R hl h1 h1).use ⟨_, gfx R0 rfl rfl, fun c => ⟨_, pfx R0 rfl rfl rfl, bI_nar _, _, rfl, rfl, ?_, K1.set, hm_set _ _ _⟩, fun c => ⟨_, pfx R0 rfl rfl rfl, bI_nar _, _, rfl, rfl, ?_, K1.set, hm_set _ _ _⟩⟩⟩
  · rw [(bI_0 _).mp c]
    show hget _ _ = _
    rw [hset_at, Int32.add_zero]
    rfl
  · rw [(bI_ne0 _).mp c]
    show hget _ _ = _
    rw [hset_at, show nI pl + 1 = nI (pl + 1) from nI_add' pl 1]
    rfl
/-- what a piece that is read gives, or the place of a fault -/
def PX (res : Option Nat × Nat) (r p : Nat) (h : hp_) : o_ → hp_ → Prop :=
  RX (RI fun y h' => ∃ a, res.1 = some a ∧ y = nI a ∧ RD h' r p res.2 ∧ K1 r h h' ∧ hm h' ≤ hm h) (fun q h' => res.1 = none ∧ hget h' q = some (eO 9 [.int (nI res.2)]) ∧ K1 r h h' ∧ hm h' ≤ hm h + 8)
theorem pxr {res : Option Nat × Nat} {h' : hp_} {y : Int32} (a : Nat) (h1 : res.1 = some a) (h2 : y = nI a) (h3 : RD h' r p res.2) (h4 : K1 r h h') (h5 : hm h' ≤ hm h) : PX res r p h (.inl (some (.int y))) h' := ⟨_, rfl, a, h1, h2, h3, h4, h5⟩
theorem pxf {res : Option Nat × Nat} {h' : hp_} {q : Nat} (h1 : res.1 = none) (h3 : hget h' q = some (eO 9 [.int (nI res.2)])) (h4 : K1 r h h') (h5 : hm h' ≤ hm h + 8) : PX res r p h (.inr q) h' := ⟨h1, h3, h4, h5⟩
theorem letA_see {X : List Nat} {pl : Nat} : (see X pl 65 90 = true → ∃ c, X[pl]? = some c ∧ 65 ≤ c ∧ letA X pl = some (c - 65)) ∧ (see X pl 65 90 = false → letA X pl = none) := by
  unfold see letA
  cases hx : X[pl]? with
  | none => exact ⟨(fun h => by cases h), fun _ => rfl⟩
  | some c =>
    dsimp only
    by_cases hc : 65 ≤ c ∧ c ≤ 90
    · rw [if_pos hc]
      exact ⟨fun _ => ⟨c, rfl, hc.1, rfl⟩, fun h => absurd hc (of_decide_eq_false h)⟩
    · rw [if_neg hc]
      exact ⟨fun h => absurd (of_decide_eq_true h) hc, fun _ => rfl⟩
theorem X8_letter_ (hw : hwf h) (S : SB h p X) (R : RD h r p pl) (hl : pl ≤ X.length) : Do_ G M_X8_letter [.ref r] h (PX (letA X pl, (match letA X pl with | some _ => pl + 1 | none => pl)) r p h) := by
  have R0 : hget h r = some (eO 8 [.int (nI pl), .ref p]) := R
  obtain ⟨va, cd, ml, n, f, s3, -⟩ := S.2.2
  have hne : p ≠ r := hgn s3 R0 (by simp)
  refine e_X8_letter ⟨cax R0, (X8_sees_ (lo := 65) (hi := 90) S R hl (by omega) (by omega)).use ⟨fun c => ?_, fun c => ?_⟩⟩
  · obtain ⟨x, hx, h65, e⟩ := letA_see.1 ((bI_ne0 _).mp c)
    have e9 : nI pl + 1 - 1 = nI pl := by simp
    have S' : SB (hset h r (eO 8 [.int (nI pl + 1), .ref p])) p X := S.k1 R K1.set
    refine ⟨_, gfx R0 rfl rfl, _, pfx R0 rfl rfl rfl, _, gfx (hset_at _ _ _) rfl rfl, _, gfx (hset_at _ _ _) rfl rfl, cax (by rw [hset_ne _ _ hne]; exact s3), ?_⟩
    rw [e9]
    refine (J5_charAt_ S' hx).use (pxr (x - 65) e ?_ ?_ K1.set (Nat.le_of_eq (hm_set _ _ _)))
    · exact nI_sub' (b := 65) h65
    · rw [e]
      show hget _ _ = _
      rw [hset_at, show nI pl + 1 = nI (pl + 1) from nI_add' pl 1]
  · have e := letA_see.2 ((bI_0 _).mp (Classical.not_not.mp c))
    refine ⟨_, gfx R0 rfl rfl, cax (hnew_at _ _ _), ?_⟩
    rw [e]
    exact pxf rfl (hnew_at _ _ _) (K1.new hw) (by rw [hm_new]; omega)
theorem X8_name_ (hw : hwf h) (S : SB h p X) (R : RD h r p pl) (hl : pl ≤ X.length) : Do_ G M_X8_name [.ref r] h (PX (pName X pl) r p h) := by
  refine e_X8_name ⟨cax R, Do_.rxi (X8_letter_ hw S R hl) ?_ ?_⟩
  · rintro _ h1 w1 - ⟨a, a1, rfl, a2, a3, a4⟩
    have a1 : letA X pl = some a := a1
    have hlt := letA_lt a1
    have a2 : RD h1 r p (match letA X pl with | some _ => pl + 1 | none => pl) := a2
    rw [a1] at a2
    have a2 : RD h1 r p (pl + 1) := a2
    refine ⟨cax a2, Do_.rxi (X8_letter_ w1 (S.k1 R a3) a2 hlt.2) ?_ ?_⟩
    · rintro _ h2 w2 - ⟨b, b1, rfl, b2, b3, b4⟩
      have b1 : letA X (pl + 1) = some b := b1
      have b2 : RD h2 r p (match letA X (pl + 1) with | some _ => pl + 1 + 1 | none => pl + 1) := b2
      rw [b1] at b2
      refine pxr (26 * a + b) ?_ ?_ ?_ (a3.tr b3) (by omega)
      · unfold pName; rw [a1]; dsimp only; rw [b1]
      · rw [show (26 : Int32) = nI 26 from rfl, nI_mul', nI_add']
      · unfold pName; rw [a1]; dsimp only; rw [b1]; exact b2
    · rintro q h2 w2 - ⟨b1, b2, b3, b4⟩
      have b1 : letA X (pl + 1) = none := b1
      have b2 : hget h2 q = some (eO 9 [.int (nI (match letA X (pl + 1) with | some _ => pl + 1 + 1 | none => pl + 1))]) := b2
      rw [b1] at b2
      refine ⟨cax b2, pxf ?_ ?_ (a3.tr b3) (by omega)⟩
      · unfold pName; rw [a1]; dsimp only; rw [b1]
      · unfold pName; rw [a1]; dsimp only; rw [b1]; exact b2
  · rintro q h1 w1 - ⟨a1, a2, a3, a4⟩
    have a1 : letA X pl = none := a1
    have a2 : hget h1 q = some (eO 9 [.int (nI (match letA X pl with | some _ => pl + 1 | none => pl))]) := a2
    rw [a1] at a2
    refine ⟨cax a2, pxf ?_ ?_ a3 a4⟩
    · unfold pName; rw [a1]
    · unfold pName; rw [a1]; exact a2
theorem X8_number_ {least most : Nat} (hw : hwf h) (S : SB h p X) (R : RD h r p pl) (hl : pl ≤ X.length) (h48 : 48 ≤ least) (hle : least < 65536) (hmo : most ≤ 9999) (h9 : 9 ≤ most) : Do_ G M_X8_number [.ref r, .int (nI least), .int (nI most)] h (PX (pNum X least most pl) r p h) := by
  have R0 : hget h r = some (eO 8 [.int (nI pl), .ref p]) := R
  obtain ⟨va, cd, ml, n, f, s3, -⟩ := S.2.2
  have hlen := S.2.1
  have key : ∀ (f q v : Nat) (h1 : hp_), X.length - q = f → q ≤ X.length → v ≤ most → hwf h1 → RD h1 r p q → K1 r h h1 → hm h1 ≤ hm h → pNum X least most pl = (some (nlp X most f q v).1, (nlp X most f q v).2) →
      Go_ G M_X8_number 49 [some (.ref r), none, some (.int (nI most)), some (.int (nI v))] [] h1 (PX (pNum X least most pl) r p h) := by
    intro f
    induction f with
    | zero =>
      intro q v h1 hf hq hv w1 a1 a2 a3 a4
      have hs : see X q 48 57 = false := by
        cases hh : see X q 48 57 with
        | false => rfl
        | true => have := see_lt hh; omega
      have fin : PX (pNum X least most pl) r p h (.inl (some (.int (nI v)))) h1 := by
        rw [a4]
        exact pxr v rfl rfl a1 a2 a3
      refine w_X8_number_49 ⟨fun _ => fin, fun c => ⟨cax a1, (X8_sees_ (lo := 48) (hi := 57) (S.k1 R a2) a1 hq (by omega) (by omega)).use ⟨fun _ => fin, fun c => ?_⟩⟩⟩
      rw [hs] at c
      exact absurd rfl c
    | succ f ih =>
      intro q v h1 hf hq hv w1 a1 a2 a3 a4
      have hx : X[q]? = some X[q] := List.getElem?_eq_getElem (by omega)
      have hc := S.1 q _ hx
      have S1 := S.k1 R a2
      have a1' : hget h1 r = some (eO 8 [.int (nI q), .ref p]) := a1
      have s3' : hget h1 p = some _ := a2 _ _ (hgn s3 R0 (by simp)) s3
      by_cases hgo : 0 < v ∧ (48 ≤ X[q] ∧ X[q] ≤ 57) ∧ 10 * v + X[q] - 48 ≤ most
      · have a4' : pNum X least most pl = (some (nlp X most f (q + 1) (10 * v + X[q] - 48)).1, (nlp X most f (q + 1) (10 * v + X[q] - 48)).2) := by
          rw [a4]
          have : nlp X most (f + 1) q v = nlp X most f (q + 1) (10 * v + X[q] - 48) := by
            conv => lhs; unfold nlp
            rw [hx]
            simp only [if_pos hgo]
          rw [this]
        have hs : see X q 48 57 = true := by
          unfold see; rw [hx]; exact decide_eq_true hgo.2.1
        have e1 : (10 : Int32) * nI v + nI X[q] - 48 = nI (10 * v + X[q] - 48) := by
          rw [show (10 : Int32) = nI 10 from rfl, nI_mul', nI_add']
          exact nI_sub' (b := 48) (by omega)
        refine w_X8_number_49 ⟨fun c => ?_, fun _ => ⟨cax a1', (X8_sees_ (lo := 48) (hi := 57) S1 a1 hq (by omega) (by omega)).use ⟨fun c => ?_, fun _ => ⟨_, gfx a1' rfl rfl, _, gfx a1' rfl rfl, cax s3', (J5_charAt_ S1 hx).use ⟨fun c => ?_, fun _ => ⟨_, gfx a1' rfl rfl, _, gfx a1' rfl rfl, cax s3', (J5_charAt_ S1 hx).use ⟨_, gfx a1' rfl rfl, _, pfx a1' rfl rfl rfl, ?_⟩⟩⟩⟩⟩⟩⟩
        · have := (nI_le' (a := v) (b := 0) (by omega) (by omega)).mp c
          omega
        · rw [hs] at c; exact absurd c (by decide)
        · rw [e1] at c
          have := (nI_lt' (by omega) (by omega)).mp c
          omega
        · rw [e1]
          refine ih (q + 1) _ _ (by omega) (by omega) hgo.2.2 (hwf_set w1 _ (hlt w1 a1')) ?_ (a2.tr K1.set) (by rw [hm_set]; exact a3) a4'
          show hget _ _ = _
          rw [hset_at, show nI q + 1 = nI (q + 1) from nI_add' q 1]; rfl
      · have fin : PX (pNum X least most pl) r p h (.inl (some (.int (nI v)))) h1 := by
          have : nlp X most (f + 1) q v = (v, q) := by
            conv => lhs; unfold nlp
            rw [hx]
            simp only [if_neg hgo]
          rw [a4, this]
          exact pxr v rfl rfl a1 a2 a3
        refine w_X8_number_49 ⟨fun _ => fin, fun cv => ⟨cax a1', (X8_sees_ (lo := 48) (hi := 57) S1 a1 hq (by omega) (by omega)).use ⟨fun _ => fin, fun cs => ⟨_, gfx a1' rfl rfl, _, gfx a1' rfl rfl, cax s3', (J5_charAt_ S1 hx).use ⟨fun _ => fin, fun c => ?_⟩⟩⟩⟩⟩
        exfalso
        have hv0 : 0 < v := by
          rcases Nat.eq_zero_or_pos v with e | e
          · rw [e] at cv; exact absurd (by decide) cv
          · exact e
        have hs : 48 ≤ X[q] ∧ X[q] ≤ 57 := by
          have hs := (bI_ne0 _).mp cs
          unfold see at hs
          rw [hx] at hs
          exact of_decide_eq_true hs
        have e1 : (10 : Int32) * nI v + nI X[q] - 48 = nI (10 * v + X[q] - 48) := by
          rw [show (10 : Int32) = nI 10 from rfl, nI_mul', nI_add']
          exact nI_sub' (b := 48) (by omega)
        rw [e1] at c
        refine hgo ⟨hv0, hs, ?_⟩
        rcases Nat.lt_or_ge most (10 * v + X[q] - 48) with q2 | q2
        · exact absurd ((nI_lt' (by omega) (by omega)).mpr q2) c
        · exact q2
  refine e_X8_number ⟨cax R0, (X8_sees_ (hi := 57) S R hl hle (by omega)).use ⟨fun c => ?_, fun c => ?_⟩⟩
  · have hs := (bI_ne0 _).mp c
    have hlp := see_lt hs
    have hx : X[pl]? = some X[pl] := List.getElem?_eq_getElem hlp
    have hr : least ≤ X[pl] ∧ X[pl] ≤ 57 := by
      unfold see at hs
      rw [hx] at hs
      exact of_decide_eq_true hs
    have e : pNum X least most pl = (some (nlp X most (X.length - (pl + 1)) (pl + 1) (X[pl] - 48)).1, (nlp X most (X.length - (pl + 1)) (pl + 1) (X[pl] - 48)).2) := by
      unfold pNum
      rw [hx]
      simp only [if_pos hr]
    refine ⟨_, gfx R0 rfl rfl, _, gfx R0 rfl rfl, cax s3, (J5_charAt_ S hx).use ⟨_, gfx R0 rfl rfl, _, pfx R0 rfl rfl rfl, ?_⟩⟩
    rw [show nI X[pl] - 48 = nI (X[pl] - 48) from nI_sub' (b := 48) (by omega)]
    refine key (X.length - (pl + 1)) (pl + 1) (X[pl] - 48) _ rfl hlp (by omega) (hwf_set hw _ (hlt hw R0)) ?_ K1.set (by rw [hm_set]; exact Nat.le_refl _) e
    show hget _ _ = _
    rw [hset_at, show nI pl + 1 = nI (pl + 1) from nI_add' pl 1]
    rfl
  · have hs := (bI_0 _).mp (Classical.not_not.mp c)
    have e : pNum X least most pl = (none, pl) := by
      unfold pNum
      unfold see at hs
      cases hx : X[pl]? with
      | none => rfl
      | some x =>
        rw [hx] at hs
        simp only [if_neg (of_decide_eq_false hs)]
    refine ⟨_, gfx R0 rfl rfl, cax (hnew_at _ _ _), ?_⟩
    rw [e]
    exact pxf rfl (hnew_at _ _ _) (K1.new hw) (by rw [hm_new]; omega)
end D12
