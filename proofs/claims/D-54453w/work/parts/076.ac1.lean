/-! SPECS 26: the acts that change a shelf -/
set_option maxRecDepth 100000
def inr (x lo hi : Int32) : Bool := decide (lo ≤ x ∧ x ≤ hi)
def i2n (a : Int32) : Nat := a.toInt.toNat
theorem inr_n {x : Int32} {l k : Nat} (hl : l < 2 ^ 31) (hk : k < 2 ^ 31) (h : inr x (nI l) (nI k) = true) : nI (i2n x) = x ∧ l ≤ i2n x ∧ i2n x ≤ k := by
  have h := of_decide_eq_true h
  rw [Int32.le_iff_toInt_le, Int32.le_iff_toInt_le, nI_toInt hl, nI_toInt hk] at h
  unfold i2n
  refine ⟨?_, by omega, by omega⟩
  apply Int32.toInt_inj.mp
  rw [nI_toInt (by omega)]
  omega
def becS (S : st_) (r : Int32 × sg_) : Int32 × st_ := if 0 ≤ r.1 then (r.1, beS S r.2) else (r.1, S)
def addA (S : st_) (a b c : Int32) : Int32 × st_ := if inr a 0 675 && (inr b 1 40 && inr c 0 9999) then becS S (addS S.1 (i2n a) (i2n b) (i2n c)) else (-2, S)
def repA (S : st_) (a b c : Int32) : Int32 × st_ := match memb S.1.1 a with
  | none => (-1, S)
  | some _ => if inr b 1 40 && inr c 0 9999 then becS S (repS S.1 a (i2n b) (i2n c)) else (-2, S)
def remA (S : st_) (a : Int32) : Int32 × st_ := match look S.1.1 a with
  | none => (-1, S)
  | some i => (nI (S.1.1.length - 1), beS S (S.1.1.eraseIdx i, S.1.2))
def renA (S : st_) (a b : Int32) : Int32 × st_ := match look S.1.1 a with
  | none => (-1, S)
  | some i => if inr b 0 675 then (if a = b then (-5, S) else if (look S.1.1 b).isSome then (-7, S) else (nI (plc (S.1.1.eraseIdx i) (i2n b)), beS S (renS S.1 i (i2n a) (i2n b)))) else (-2, S)
def aliA (S : st_) (a b : Int32) : Int32 × st_ := match memb S.1.1 b with
  | none => (-1, S)
  | some _ => if inr a 0 675 then becS S (aliasS S.1 (i2n a) (i2n b)) else (-2, S)
def sqzA (S : st_) : Int32 × st_ := if usum S.1.1 true S.1.2.1 = 0 then (-5, S) else ((sqzS S.1).1, beS S (sqzS S.1).2)
def mkaA (S : st_) (b : Int32) : Int32 × st_ := if inr b 1 6 then (if 4 * i2n b < S.1.1.length then (-6, S) else if S.1.2.2.1 = i2n b then (-5, S) else (nI S.1.2.2.1, beS S (sqzS (S.1.1, S.1.2.1, i2n b, S.1.2.2.2)).2)) else (-2, S)
def HZ (G : g_) (h : hp_) : Prop := ∃ f, hget h (gz G) = some (eR 0 f)
/-- how a call of the component ends -/
abbrev PC (G : g_) (x : Nat) (h : hp_) (r : Int32 × st_) : o_ → hp_ → Prop := RI fun y h' => y = r.1 ∧ XS G h' x r.2 ∧ KM h h' ∧ hm h' ≤ hm h + 18000
theorem memb_none {F : List (EN × tt_)} {x : Int32} (f1 : ∀ e, fnd (F.map Prod.fst) x = some e → (eg e).isSome = true) : memb (F.map rwo) x = none := by
  unfold memb
  cases hk : look (F.map rwo) x with
  | none => rfl
  | some i =>
    obtain ⟨z, hz, -⟩ := look_F hk
    have := f1 _ (fnd_look hk hz)
    have hri : (F.map rwo)[i]? = some (rwo z) := by rw [List.getElem?_map, hz]; rfl
    simp only [hri]
    rw [if_pos (show (rwo z).2.1.isSome = true from this)]
theorem memb_some {F : List (EN × tt_)} {x : Int32} {e : EN} (f1 : fnd (F.map Prod.fst) x = some e) (hg : eg e = none) : ∃ i z, F[i]? = some z ∧ z.1 = e ∧ look (F.map rwo) x = some i ∧ memb (F.map rwo) x = some (rwo z) := by
  obtain ⟨i, z, z1, z2, z3⟩ := fnd_some f1
  refine ⟨i, z, z1, z2, z3, ?_⟩
  have hri : (F.map rwo)[i]? = some (rwo z) := by rw [List.getElem?_map, z1]; rfl
  unfold memb
  simp only [z3, hri]
  rw [if_neg]
  show ¬ (eg z.1).isSome = true
  rw [z2, hg]; simp
theorem plc_map {R : List rw_} {g : rw_ → rw_} (hg : ∀ r, (g r).1 = r.1) (x : Nat) : plc (R.map g) x = plc R x := by
  induction R with
  | nil => rfl
  | cons a R ih => simp only [List.map_cons, plc, hg, ih]
theorem look_insR {R : List rw_} {r : rw_} (hs : ∀ q ∈ R, q.1 < 676) (hr : r.1 < 676) : look (insR R r) (nI r.1) = some (plc R r.1) := by
  refine look_of (r := r) ?_ rfl (fun j y hj hy => ?_)
  · unfold insR
    rw [List.getElem?_insertIdx_self, if_pos (plc_le R r.1)]
  · unfold insR at hy
    rw [List.getElem?_insertIdx_of_lt hj] at hy
    have := plc_lt hj hy
    have h1 := hs y (List.mem_of_getElem? hy)
    intro e
    have e := (nI_eq' (by omega) (by omega)).mp e
    omega
section D26
variable {G : g_} {h : hp_} {x : Nat} {S : st_}
theorem HZ.km {h' : hp_} (z : HZ G h) (k : KM h h') : HZ G h' := by
  obtain ⟨f, z⟩ := z
  exact ⟨f, k _ _ (Or.inr (Or.inr ⟨f, rfl⟩)) z⟩
theorem HZ.le {h' : hp_} (z : HZ G h) (k : Le h h') : HZ G h' := z.km k.km
theorem SHL.N {lo s N : Nat} {σ : sg_} (A : SHL G lo h s σ N) : N ≤ 300 := by
  obtain ⟨d, el, ar, n, tl, ta, nt, F, K, a, e1, e2, e3⟩ := A
  obtain ⟨mc, f, d2⟩ := a.2.1.2.1
  obtain ⟨mt, ft, a3⟩ := a.2.2.1
  have := d2.2.2.2.1
  have := a3.2.2.2.1
  omega
theorem X0_isName_ {a : Int32} : QE G M_X0_isName [.int a] h (bI (inr a 0 675)) := e_X0_isName (X0_inRange_.use ⟨bI_nar _, _, rfl, rfl, rfl⟩)
theorem X0_isLength_ {a : Int32} : QE G M_X0_isLength [.int a] h (bI (inr a 1 40)) := e_X0_isLength (X0_inRange_.use ⟨bI_nar _, _, rfl, rfl, rfl⟩)
theorem X0_isMark_ {a : Int32} : QE G M_X0_isMark [.int a] h (bI (inr a 0 9999)) := e_X0_isMark (X0_inRange_.use ⟨bI_nar _, _, rfl, rfl, rfl⟩)
/-- nothing but new things: an act that is refused -/
theorem PC.no {h' : hp_} {r : Int32 × st_} {y : Int32} (A : XS G h x S) (l : Le h h') (m : hm h' ≤ hm h + 18000) (e : r = (y, S)) : PC G x h r (.inl (some (.int y))) h' := by
  obtain ⟨nw, snv, hq, es, a, pd, X, A⟩ := A
  rw [e]
  exact ⟨_, rfl, rfl, ⟨nw, snv, hq, es, a, pd, X, A.le l⟩, l.km, m⟩
/-- a shelf of one's own becomes that of now -/
theorem PC.be {nw hq es a pd : Nat} {snv : Value} {X : List Nat} {h0 h1 h2 : hp_} {y N : Nat} {σ' : sg_} {t : Int32} {r : Int32 × st_} (hw : hwf h0) (A : XSA G h0 x nw snv hq es a pd X S) (l0 : Le h h0) (w2 : hwf h2) (l1 : Le h0 h1) (f : Fr (hsz h0) h1 h2) (Y : SHL G (hsz h0) h2 y σ' N) (W : WS σ') (m : hm h2 ≤ hm h + 18000) (e : r = (t, beS S σ')) :
    cls_at h2 x = some 0 ∧ Do_ G M_X0_become [.ref x, .ref y, .int t] h2 (RI fun z h3 => PC G x h r (.inl (some (.int z))) h3) := by
  have l2 : Le h0 h2 := fun q z c => f q z (hlt hw c) (l1 q z c)
  have A2 := A.le l2
  have hes : es < hsz h0 := by
    obtain ⟨g, d1, d2, d3⟩ := A.2.2.2.1
    exact hlt hw d2
  refine ⟨cax A2.1, (X0_become_ w2 A2 (SHX.mk Y W hes)).ri ?_⟩
  rintro z h3 w3 s3 ⟨rfl, b1, b2, b3⟩
  rw [e]
  exact ⟨_, rfl, rfl, b1, (l0.trans l2).km.tr b2, by omega⟩
theorem X0_add_ {a b c : Int32} (hw : hwf h) (hz : HZ G h) (A : XS G h x S) : Do_ G M_X0_add [.ref x, .int a, .int b, .int c] h (PC G x h (addA S a b c)) := by
  have A0 := A
  obtain ⟨nw, snv, hq, es, a', pd, X, A⟩ := A
  obtain ⟨W, lo, N, B, -⟩ := A.2.1
  obtain ⟨f0, hz⟩ := hz
  refine e_X0_add (X0_isName_.use ⟨fun c1 => ?_, fun c1 => X0_isLength_.use ⟨fun c2 => ?_, fun c2 => X0_isMark_.use ⟨fun c3 => ⟨_, gfx A.1 rfl rfl, B.cls, (X1_copy_ hw hz B W).rn ?_⟩, fun c3 => ?_⟩⟩⟩)
  · exact PC.no A0 Le.rfl (by omega) (by unfold addA; rw [(bI_0 _).mp c1]; rfl)
  · exact PC.no A0 Le.rfl (by omega) (by unfold addA; rw [(bI_0 _).mp c2]; simp)
  · rintro _ h1 w1 s1 ⟨rfl, N', B1, l1, m1⟩
    obtain ⟨ea1, -, ha2⟩ := inr_n (l := 0) (k := 675) (by omega) (by omega) ((bI_ne0 _).mp c1)
    obtain ⟨eb1, hb1, hb2⟩ := inr_n (l := 1) (k := 40) (by omega) (by omega) ((bI_ne0 _).mp c2)
    obtain ⟨ec1, -, hc2⟩ := inr_n (l := 0) (k := 9999) (by omega) (by omega) ((bI_ne0 _).mp c3)
    have hin : (inr a 0 675 && (inr b 1 40 && inr c 0 9999)) = true := by rw [(bI_ne0 _).mp c1, (bI_ne0 _).mp c2, (bI_ne0 _).mp c3]; rfl
    have hN1 := B1.N
    have spec := X1_add_ (x := i2n a) (l := i2n b) (m := i2n c) w1 B1 W s1 (by omega) ⟨hb1, hb2⟩ hc2
    rw [ea1, eb1, ec1] at spec
    refine ⟨B1.cls, spec.ri ?_⟩
    rintro y h2 w2 s2 ⟨rfl, ⟨N2, B2, m2⟩, f2, -⟩
    have hN2 := B2.N
    have l2 : Le h h2 := fun q z c => f2 q z (hlt hw c) (l1 q z c)
    refine ⟨fun c4 => ?_, fun c4 => ?_⟩
    · exact PC.be hw A Le.rfl w2 l1 f2 B2 (WS_add W (by omega) ⟨hb1, hb2⟩ hc2) (by omega) (by unfold addA; rw [if_pos hin]; unfold becS; rw [if_pos c4])
    · exact PC.no A0 l2 (by omega) (by unfold addA; rw [if_pos hin]; unfold becS; rw [if_neg c4])
  · exact PC.no A0 Le.rfl (by omega) (by unfold addA; rw [(bI_0 _).mp (Classical.not_not.mp c3)]; simp)
theorem X0_replace_ {a b c : Int32} (hw : hwf h) (hz : HZ G h) (A : XS G h x S) : Do_ G M_X0_replace [.ref x, .int a, .int b, .int c] h (PC G x h (repA S a b c)) := by
  have A0 := A
  obtain ⟨nw, snv, hq, es, a', pd, X, A⟩ := A
  obtain ⟨W, lo, N, B, -⟩ := A.2.1
  have B0 := B
  obtain ⟨d, el, ar, n, tl, ta, nt, F, K, B, eR_, eT, eN⟩ := B
  refine e_X0_replace ⟨_, gfx A.1 rfl rfl, _, gfx B.1 rfl rfl, cax B.2.1.1, (X2_member_ hw B.2.1).ro ?_ ?_⟩
  · rintro h1 w1 s1 ⟨f1, l1, m1⟩
    exact PC.no A0 l1 (by omega) (by unfold repA; rw [eR_, memb_none f1])
  · rintro _ h1 w1 s1 ⟨e, f1, hg, rfl, l1, m1⟩
    obtain ⟨i, z, z1, z2, z3, z4⟩ := memb_some f1 hg
    rw [← eR_] at z3 z4
    have A1 := A.le l1
    refine X0_isLength_.use ⟨fun c2 => ?_, fun c2 => X0_isMark_.use ⟨fun c3 => ⟨_, gfx A1.1 rfl rfl, (B0.le l1).cls, ?_⟩, fun c3 => ?_⟩⟩
    · exact PC.no A0 l1 (by omega) (by unfold repA; rw [z4, (bI_0 _).mp c2]; rfl)
    · obtain ⟨f0, hz1⟩ := hz.le l1
      refine (X1_copy_ w1 hz1 (B0.le l1) W).rn ?_
      rintro _ h2 w2 s2 ⟨rfl, N', B2, l2, m2⟩
      obtain ⟨eb1, hb1, hb2⟩ := inr_n (l := 1) (k := 40) (by omega) (by omega) ((bI_ne0 _).mp c2)
      obtain ⟨ec1, -, hc2⟩ := inr_n (l := 0) (k := 9999) (by omega) (by omega) ((bI_ne0 _).mp c3)
      have hin : (inr b 1 40 && inr c 0 9999) = true := by rw [(bI_ne0 _).mp c2, (bI_ne0 _).mp c3]; rfl
      have hN1 := B2.N
      have spec := X1_replace_ (x := a) (l := i2n b) (m := i2n c) w2 B2 W s2 z3 ⟨hb1, hb2⟩ hc2
      rw [eb1, ec1] at spec
      refine ⟨B2.cls, spec.ri ?_⟩
      rintro y h3 w3 s3 ⟨rfl, ⟨N2, B3, m3⟩, f3⟩
      have hN2 := B3.N
      have l3 : Le h h3 := fun q z c => f3 q z (by have := hlt hw c; omega) (l2 q z (l1 q z c))
      refine ⟨fun c4 => ?_, fun c4 => ?_⟩
      · exact PC.be w1 A1 l1 w3 l2 f3 B3 (WS_rep W ⟨hb1, hb2⟩ hc2) (by omega) (by unfold repA; rw [z4]; dsimp only; rw [if_pos hin]; unfold becS; rw [if_pos c4])
      · exact PC.no A0 l3 (by omega) (by unfold repA; rw [z4]; dsimp only; rw [if_pos hin]; unfold becS; rw [if_neg c4])
    · exact PC.no A0 l1 (by omega) (by unfold repA; rw [z4, (bI_0 _).mp (Classical.not_not.mp c3)]; simp)
theorem X0_remove_ {a : Int32} (hw : hwf h) (hz : HZ G h) (A : XS G h x S) : Do_ G M_X0_remove [.ref x, .int a] h (PC G x h (remA S a)) := by
  have A0 := A
  obtain ⟨nw, snv, hq, es, a', pd, X, A⟩ := A
  obtain ⟨W, lo, N, B, -⟩ := A.2.1
  have B0 := B
  obtain ⟨d, el, ar, n, tl, ta, nt, F, K, B, eR_, eT, eN⟩ := B
  refine e_X0_remove ⟨_, gfx A.1 rfl rfl, _, gfx B.1 rfl rfl, cax B.2.1.1, (X2_find_ hw B.2.1).ro ?_ ?_⟩
  · rintro h1 w1 s1 ⟨f1, l1, m1⟩
    exact PC.no A0 l1 (by omega) (by unfold remA; rw [eR_, fnd_none f1])
  · rintro _ h1 w1 s1 ⟨e, f1, rfl, l1, m1⟩
    obtain ⟨i, z, z1, z2, z3⟩ := fnd_some f1
    rw [← eR_] at z3
    have hil : i < S.1.1.length := by
      obtain ⟨r, hr, -⟩ := look_some z3
      exact (List.getElem?_eq_some_iff.mp hr).1
    have A1 := A.le l1
    obtain ⟨f0, hz1⟩ := hz.le l1
    refine ⟨_, gfx A1.1 rfl rfl, (B0.le l1).cls, (X1_copy_ w1 hz1 (B0.le l1) W).rn ?_⟩
    rintro _ h2 w2 s2 ⟨rfl, N', B2, l2, m2⟩
    have hN1 := B2.N
    obtain ⟨d, el, ar, n, tl, ta, nt, F, K, B2, eR2, eT2, eN2⟩ := B2
    refine ⟨_, gfx B2.1 rfl rfl, cax B2.2.1.1, (X1_take_ w2 B2 s2 (by rw [← eR2]; exact z3)).rv ?_⟩
    rintro h3 w3 s3 ⟨B3, k3, m3⟩
    refine ⟨_, gfx B3.1 rfl rfl, cax B3.2.1.1, (X2_count_ w3 B3.2.1).use fun h4 w4 s4 l4 m4 => ?_⟩
    have f4 : Fr (hsz h1) h2 h4 := (B2.klfr k3).trans (l4.fr _)
    have B4 : SHL G (hsz h1) h4 (hsz h1) (S.1.1.eraseIdx i, S.1.2) N' := ⟨d, el, ar, n, tl, ta, nt, _, K, B3.le l4, by rw [map_ers, ← eR2], eT2, eN2⟩
    refine PC.be w1 A1 l1 w4 l2 f4 B4 (WS_take W) (by omega) ?_
    unfold remA
    rw [z3, List.length_map, List.length_eraseIdx]
    have : F.length = S.1.1.length := by rw [eR2, List.length_map]
    rw [if_pos (by omega), this]
theorem X0_alias_ {a b : Int32} (hw : hwf h) (hz : HZ G h) (A : XS G h x S) : Do_ G M_X0_alias [.ref x, .int a, .int b] h (PC G x h (aliA S a b)) := by
  have A0 := A
  obtain ⟨nw, snv, hq, es, a', pd, X, A⟩ := A
  obtain ⟨W, lo, N, B, -⟩ := A.2.1
  have B0 := B
  obtain ⟨d, el, ar, n, tl, ta, nt, F, K, B, eR_, eT, eN⟩ := B
  refine e_X0_alias ⟨_, gfx A.1 rfl rfl, _, gfx B.1 rfl rfl, cax B.2.1.1, (X2_member_ hw B.2.1).ro ?_ ?_⟩
  · rintro h1 w1 s1 ⟨f1, l1, m1⟩
    exact PC.no A0 l1 (by omega) (by unfold aliA; rw [eR_, memb_none f1])
  · rintro _ h1 w1 s1 ⟨e, f1, hg, rfl, l1, m1⟩
    obtain ⟨i, z, z1, z2, z3, z4⟩ := memb_some f1 hg
    rw [← eR_] at z3 z4
    have A1 := A.le l1
    have hb : nI (i2n b) = b ∧ i2n b < 676 := by
      obtain ⟨hm1, -, hm3⟩ := memb_mem z4
      have h1 := (W.2.1 _ hm1).1
      rw [← hm3]
      unfold i2n
      rw [nI_toInt (by omega)]
      exact ⟨by simp, by omega⟩
    refine X0_isName_.use ⟨fun c2 => ⟨_, gfx A1.1 rfl rfl, (B0.le l1).cls, ?_⟩, fun c2 => ?_⟩
    · obtain ⟨f0, hz1⟩ := hz.le l1
      refine (X1_copy_ w1 hz1 (B0.le l1) W).rn ?_
      rintro _ h2 w2 s2 ⟨rfl, N', B2, l2, m2⟩
      have hin := (bI_ne0 _).mp c2
      obtain ⟨eb1, -, hb2⟩ := inr_n (l := 0) (k := 675) (by omega) (by omega) hin
      have hN1 := B2.N
      have spec := X1_alias_ (a := i2n a) (x := i2n b) w2 B2 W s2 (by omega) hb.2
      rw [eb1, hb.1] at spec
      refine ⟨B2.cls, spec.ri ?_⟩
      rintro y h3 w3 s3 ⟨rfl, ⟨N2, B3, m3⟩, f3, -⟩
      have hN2 := B3.N
      have l3 : Le h h3 := fun q z c => f3 q z (by have := hlt hw c; omega) (l2 q z (l1 q z c))
      refine ⟨fun c4 => ?_, fun c4 => ?_⟩
      · exact PC.be w1 A1 l1 w3 l2 f3 B3 (WS_alias W (by omega) hb.2) (by omega) (by unfold aliA; rw [z4]; dsimp only; rw [if_pos hin]; unfold becS; rw [if_pos c4])
      · exact PC.no A0 l3 (by omega) (by unfold aliA; rw [z4]; dsimp only; rw [if_pos hin]; unfold becS; rw [if_neg c4])
    · exact PC.no A0 l1 (by omega) (by unfold aliA; rw [z4, (bI_0 _).mp (Classical.not_not.mp c2)]; rfl)
theorem X0_rename_ {a b : Int32} (hw : hwf h) (hz : HZ G h) (A : XS G h x S) : Do_ G M_X0_rename [.ref x, .int a, .int b] h (PC G x h (renA S a b)) := by
  have A0 := A
  obtain ⟨nw, snv, hq, es, a', pd, X, A⟩ := A
  obtain ⟨W, lo, N, B, -⟩ := A.2.1
  have B0 := B
  obtain ⟨d, el, ar, n, tl, ta, nt, F, K, B, eR_, eT, eN⟩ := B
  refine e_X0_rename ⟨_, gfx A.1 rfl rfl, _, gfx B.1 rfl rfl, cax B.2.1.1, (X2_find_ hw B.2.1).ro ?_ ?_⟩
  · rintro h1 w1 s1 ⟨f1, l1, m1⟩
    exact PC.no A0 l1 (by omega) (by unfold renA; rw [eR_, fnd_none f1])
  · rintro _ h1 w1 s1 ⟨e, f1, rfl, l1, m1⟩
    obtain ⟨i, z, z1, z2, z3⟩ := fnd_some f1
    rw [← eR_] at z3
    obtain ⟨ro, hro, hrn, -⟩ := look_some z3
    have hra := (W.2.1 ro (List.mem_of_getElem? hro)).1
    have hea : nI (i2n a) = a ∧ i2n a < 676 := by
      rw [← hrn]
      unfold i2n
      rw [nI_toInt (by omega)]
      exact ⟨by simp, by omega⟩
    have A1 := A.le l1
    have B1 := B.le l1
    refine X0_isName_.use ⟨fun c2 => ?_, fun c2 => ?_⟩
    · have hin := (bI_ne0 _).mp c2
      obtain ⟨eb1, -, hb2⟩ := inr_n (l := 0) (k := 675) (by omega) (by omega) hin
      refine ⟨fun cab => ⟨fun d => absurd cab d, fun _ => PC.no A0 l1 (by omega) (by unfold renA; rw [z3]; dsimp only; rw [if_pos hin, if_pos cab])⟩, fun cab => ⟨_, gfx A1.1 rfl rfl, _, gfx B1.1 rfl rfl, cax B1.2.1.1, (X2_find_ w1 B1.2.1).ro ?_ ?_⟩⟩
      · rintro h2 w2 s2 ⟨f2, l2, m2⟩
        have hnb : look S.1.1 b = none := by rw [eR_]; exact fnd_none f2
        have A2 := A1.le l2
        have l02 := l1.trans l2
        obtain ⟨f0, hz2⟩ := hz.le l02
        refine ⟨fun _ => ⟨_, gfx A2.1 rfl rfl, (B0.le l02).cls, (X1_copy_ w2 hz2 (B0.le l02) W).rn ?_⟩, fun d => absurd (Classical.not_not.mp d) cab⟩
        rintro _ h3 w3 s3 ⟨rfl, N', B3, l3, m3⟩
        have hN1 := B3.N
        have spec := X1_rename_ (o := i2n a) (y := i2n b) (i := i) w3 (l3 _ _ hz2) B3 W s3 hea.2 (by omega) (by rw [hea.1]; exact z3) (by rw [eb1]; exact hnb)
        rw [hea.1, eb1] at spec
        refine ⟨B3.cls, spec.rv ?_⟩
        rintro h4 w4 s4 ⟨⟨N4, B4, m4⟩, f4⟩
        have B40 := B4
        obtain ⟨d, el, ar, n, tl, ta, nt, F4, K4, B4, eR4, eT4, eN4⟩ := B4
        have hren : (renS S.1 i (i2n a) (i2n b)).1 = insR ((S.1.1.eraseIdx i).map (gvn ro.2.1.isNone (i2n a) (i2n b))) (i2n b, ro.2.1, ro.2.2) := by
          unfold renS; simp only [hro]
        have hlk : look (F4.map rwo) b = some (plc (S.1.1.eraseIdx i) (i2n b)) := by
          rw [← eR4, hren]
          have := look_insR (R := (S.1.1.eraseIdx i).map (gvn ro.2.1.isNone (i2n a) (i2n b))) (r := (i2n b, ro.2.1, ro.2.2)) (fun q hq => by
            obtain ⟨u, hu, rfl⟩ := List.mem_map.mp hq
            rw [gvn_1]
            exact (W.2.1 u (mem_ers hu)).1) (by show i2n b < 676; omega)
          rw [show nI (i2n b, ro.2.1, ro.2.2).1 = b from eb1, plc_map (gvn_1 _ _ _)] at this
          exact this
        obtain ⟨u, hu, hux, huf⟩ := look_F hlk
        refine ⟨_, gfx B4.1 rfl rfl, cax B4.2.1.1, (X2_rankOf_ (i := plc (S.1.1.eraseIdx i) (i2n b)) (e := u.1) w4 B4.2.1 (by rw [List.getElem?_map, hu]; rfl) hux huf).use fun h5 w5 s5 l5 m5 => ?_⟩
        refine PC.be w2 A2 l02 w5 l3 (f4.trans (l5.fr _)) (B40.le l5) (WS_ren W (by omega) (by rw [eb1]; exact hnb)) (by omega) ?_
        unfold renA
        rw [z3]
        dsimp only
        rw [if_pos hin, if_neg cab, hnb]
        rfl
      · rintro _ h2 w2 s2 ⟨e2, f2, rfl, l2, m2⟩
        obtain ⟨j, u, u1, u2, u3⟩ := fnd_some f2
        refine PC.no A0 (l1.trans l2) (by omega) ?_
        unfold renA
        rw [z3]
        dsimp only
        rw [if_pos hin, if_neg cab, eR_, u3]
        rfl
    · exact PC.no A0 l1 (by omega) (by unfold renA; rw [z3, (bI_0 _).mp (Classical.not_not.mp c2)]; rfl)
theorem X0_squeeze_ (hw : hwf h) (hz : HZ G h) (A : XS G h x S) : Do_ G M_X0_squeeze [.ref x] h (PC G x h (sqzA S)) := by
  have A0 := A
  obtain ⟨nw, snv, hq, es, a', pd, X, A⟩ := A
  obtain ⟨W, lo, N, B, -⟩ := A.2.1
  have B0 := B
  obtain ⟨d, el, ar, n, tl, ta, nt, F, K, B, eR_, eT, eN⟩ := B
  have hc : chn 0 (K.map Prod.snd) := by rw [← eT]; exact W.2.2.2.2.2.1
  have ht : tsum (K.map Prod.snd) ≤ 100 := by rw [← eT]; exact W.2.2.2.2.2.2
  have hK : K.length ≤ 100 := by have := chn_len hc; rw [List.length_map] at this; omega
  refine e_X0_squeeze ⟨_, gfx A.1 rfl rfl, B0.cls, (X1_units_ (b := true) hw B hc ht).use fun h1 w1 s1 l1 m1 => ?_⟩
  have A1 := A.le l1
  rw [← eR_, ← eT]
  have hu : usum S.1.1 true S.1.2.1 ≤ 100 := by
    rw [eT]
    exact Nat.le_trans (tsum_filter_le _ _) ht
  refine ⟨fun c => ⟨_, gfx A1.1 rfl rfl, (B0.le l1).cls, ?_⟩, fun c => ?_⟩
  · obtain ⟨f0, hz1⟩ := hz.le l1
    have hne : ¬ usum S.1.1 true S.1.2.1 = 0 := fun e => c (by rw [e]; rfl)
    refine (X1_copy_ w1 hz1 (B0.le l1) W).rn ?_
    rintro _ h2 w2 s2 ⟨rfl, N', B2, l2, m2⟩
    have hN1 := B2.N
    refine ⟨B2.cls, (X1_squeeze_ w2 (l2 _ _ hz1) B2 W s2).ri ?_⟩
    rintro y h3 w3 s3 ⟨rfl, ⟨N2, B3, m3⟩, f3⟩
    have hN2 := B3.N
    exact PC.be w1 A1 l1 w3 l2 f3 B3 (WS_sqz W) (by omega) (by unfold sqzA; rw [if_neg hne])
  · have : usum S.1.1 true S.1.2.1 = 0 := (nI_eq' (b := 0) (by omega) (by omega)).mp (Classical.not_not.mp c)
    exact PC.no A0 l1 (by omega) (by unfold sqzA; rw [if_pos this])
theorem X0_makeAnew_ {b : Int32} (hw : hwf h) (hz : HZ G h) (A : XS G h x S) : Do_ G M_X0_makeAnew [.ref x, .int b] h (PC G x h (mkaA S b)) := by
  have A0 := A
  obtain ⟨nw, snv, hq, es, a', pd, X, A⟩ := A
  obtain ⟨W, lo, N, B, -⟩ := A.2.1
  have B0 := B
  obtain ⟨d, el, ar, n, tl, ta, nt, F, K, B, eR_, eT, eN⟩ := B
  have hlen : F.length = S.1.1.length := by rw [eR_, List.length_map]
  have hl24 := B.2.1.len
  rw [List.length_map] at hl24
  have hbl := W.2.2.2.2.1
  refine e_X0_makeAnew (X0_inRange_.use ⟨fun c => ⟨_, gfx A.1 rfl rfl, _, gfx B.1 rfl rfl, cax B.2.1.1, (X2_count_ hw B.2.1).use fun h1 w1 s1 l1 m1 => ?_⟩, fun c => ?_⟩)
  · have hin : inr b 1 6 = true := (bI_ne0 _).mp c
    obtain ⟨eb1, hb1, hb2⟩ := inr_n (l := 1) (k := 6) (by omega) (by omega) hin
    have A1 := A.le l1
    have B1 := B.le l1
    rw [List.length_map, hlen]
    have e4 : (4 : Int32) * b = nI (4 * i2n b) := by
      rw [show (4 : Int32) = nI 4 from rfl, ← nI_mul', eb1]
    rw [e4]
    refine ⟨fun c2 => ⟨_, gfx A1.1 rfl rfl, _, gfx B1.1 rfl rfl, _, gfx B1.2.1.1 rfl rfl, fun c3 => ⟨_, gfx A1.1 rfl rfl, (B0.le l1).cls, ?_⟩, fun c3 => ?_⟩, fun c2 => ?_⟩
    · have h4 := (nI_le' (by omega) (by omega)).mp c2
      have hne : ¬ S.1.2.2.1 = i2n b := fun e => c3 (by rw [e, eb1])
      obtain ⟨f0, hz1⟩ := hz.le l1
      refine (X1_copy_ w1 hz1 (B0.le l1) W).rn ?_
      rintro _ h2 w2 s2 ⟨rfl, N', B2, l2, m2⟩
      have hN1 := B2.N
      obtain ⟨d, el, ar, n, tl, ta, nt, F2, K2, B2, eR2, eT2, eN2⟩ := B2
      have W' : WS (S.1.1, S.1.2.1, i2n b, S.1.2.2.2) := ⟨W.1, W.2.1, h4, hb1, hb2, W.2.2.2.2.2⟩
      have kp : ∀ q e, q ≠ d → hget h2 q = some e → hget (hset h2 d (eO 2 [.ref el, .int b])) q = some e := fun q e hq z => by rw [hset_ne _ _ hq]; exact z
      have B3 : SHL G (hsz h1) (hset h2 d (eO 2 [.ref el, .int b])) (hsz h1) (S.1.1, S.1.2.1, i2n b, S.1.2.2.2) N' := by
        refine ⟨d, el, ar, n, tl, ta, nt, F2, K2, ?_, eR2, eT2, eN2⟩
        obtain ⟨a1, ⟨d1, ⟨mc, f, d2⟩, d3, d4, d5⟩, ⟨mt, ft, a3⟩, a4, a5⟩ := B2
        refine ⟨kp _ _ (hgn a1 d1 (by simp)) a1, ⟨?_, ⟨mc, f, kp _ _ (hgn d2.1 d1 (by simp)) d2.1, kp _ _ (hgn d2.2.1 d1 (by simp)) d2.2.1, d2.2.2⟩, fun e he => ⟨kp _ _ (Ne.symm ((d3 e he).neO d1 (by omega))) (d3 e he).1, (d3 e he).2⟩, d4, hb2⟩, ⟨mt, ft, kp _ _ (hgn a3.1 d1 (by simp)) a3.1, kp _ _ (hgn a3.2.1 d1 (by simp)) a3.2.1, a3.2.2⟩, fun k hk => ?_, a5⟩
        · show hget _ _ = some (eO 2 [.ref el, .int (nI (i2n b))])
          rw [hset_at, eb1]
        · have := a4 k hk
          unfold txt at this
          exact kp _ _ (hgn this d1 (by simp)) this
      have fd : Fr (hsz h1) h2 (hset h2 d (eO 2 [.ref el, .int b])) := Fr.set B2.2.2.2.2.2.2.1
      have w3 : hwf (hset h2 d (eO 2 [.ref el, .int b])) := hwf_set w2 _ (hlt w2 B2.2.1.1)
      have hzg : hget (hset h2 d (eO 2 [.ref el, .int b])) (gz G) = some (eR 0 f0) := kp _ _ (hgn (l2 _ _ hz1) B2.2.1.1 (by simp)) (l2 _ _ hz1)
      refine ⟨_, gfx B2.1 rfl rfl, _, pfx B2.2.1.1 rfl rfl rfl, B3.cls, (X1_squeeze_ w3 hzg B3 W' (by rw [hsz_set]; exact s2)).ri ?_⟩
      rintro y h4' w4 s4 ⟨rfl, ⟨N2, B4, m4⟩, f4⟩
      rw [hm_set] at m4
      have hN2 := B4.N
      refine PC.be w1 A1 l1 w4 l2 (fd.trans f4) B4 (WS_sqz W') (by omega) ?_
      unfold mkaA
      rw [if_pos hin, if_neg (by omega), if_neg hne]
    · have h4 := (nI_le' (by omega) (by omega)).mp c2
      have he : S.1.2.2.1 = i2n b := by
        have := Classical.not_not.mp c3
        rw [← eb1] at this
        exact (nI_eq' (by omega) (by omega)).mp this
      refine PC.no A0 l1 (by omega) ?_
      unfold mkaA
      rw [if_pos hin, if_neg (by omega), if_pos he]
    · have : ¬ S.1.1.length ≤ 4 * i2n b := fun e => c2 ((nI_le' (by omega) (by omega)).mpr e)
      refine PC.no A0 l1 (by omega) ?_
      unfold mkaA
      rw [if_pos hin, if_pos (by omega)]
  · have hin : inr b 1 6 = false := (bI_0 _).mp (Classical.not_not.mp c)
    exact PC.no A0 Le.rfl (by omega) (by unfold mkaA; rw [hin]; rfl)
end D26
