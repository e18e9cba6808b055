/-! SPECS 27: all additions; the pad; the history -/
set_option maxRecDepth 100000
def makeS (σ : sg_) (t : Nat × Nat × Nat) : Int32 × sg_ := if t.2.1 = 0 then aliasS σ t.1 t.2.2 else addS σ t.1 t.2.1 t.2.2
def addsS : sg_ → List (Nat × Nat × Nat) → Option Int32 × sg_
  | σ, [] => (none, σ)
  | σ, t :: ts => if ¬ 0 ≤ (makeS σ t).1 ∧ ¬ (makeS σ t).1 = -5 then (some (makeS σ t).1, (makeS σ t).2) else addsS (makeS σ t).2 ts
def adlA (S : st_) : Int32 × st_ := match pAll S.2.2.2 with
  | (none, q) => (-100 - nI q, S)
  | (some ts, _) => match addsS S.1 ts with
    | (some t, _) => (t, S)
    | (none, σ') => (nI ts.length, beS S σ')
def typA (S : st_) (c : Nat) : Int32 × st_ := if S.2.2.2.length = 60 then (-3, S) else (nI (S.2.2.2.length + 1), (S.1, S.2.1, S.2.2.1, S.2.2.2 ++ [c]))
def clrA (S : st_) : Int32 × st_ := (nI S.2.2.2.length, (S.1, S.2.1, S.2.2.1, []))
def undA (S : st_) : Int32 × st_ := match S.2.2.1.getLast? with
  | none => (-5, S)
  | some σ => (nI (S.2.2.1.length - 1), (σ, S.2.1, S.2.2.1.dropLast, S.2.2.2))
def kepA (S : st_) : Int32 × st_ := (nI S.1.1.length, (S.1, some S.1, S.2.2.1, S.2.2.2))
def resA (S : st_) : Int32 × st_ := match S.2.1 with
  | none => (-5, S)
  | some σ => (nI σ.1.length, beS S σ)
theorem WS_make {σ : sg_} {t : Nat × Nat × Nat} (W : WS σ) (ok : okA t) : WS (makeS σ t).2 := by
  unfold makeS
  by_cases h : t.2.1 = 0
  · rw [if_pos h]
    refine WS_alias W ok.1 ?_
    rcases ok.2 with q | q <;> omega
  · rw [if_neg h]
    rcases ok.2 with q | q
    · exact absurd q.1 h
    · exact WS_add W ok.1 ⟨q.1, q.2.1⟩ q.2.2
section D27
variable {G : g_} {h : hp_} {x : Nat} {S : st_} {lo s : Nat} {σ : sg_} {N : Nat}
theorem X1_make_ {a : Nat} {t : Nat × Nat × Nat} (hw : hwf h) (A : SHL G lo h s σ N) (Wσ : WS σ) (hlo : lo ≤ hsz h) (T : tcell h a t) (ok : okA t) :
    Do_ G M_X1_make [.ref s, .ref a] h (RI fun y h' => y = (makeS σ t).1 ∧ (∃ N', SHL G lo h' s (makeS σ t).2 N' ∧ hm h' + 4 * N ≤ hm h + 4 * N' + 30) ∧ Fs lo h h') := by
  obtain ⟨g, t0, t1, t2, t3⟩ := T
  refine e_X1_make ⟨3, g, 1, t0, ix_nI (j := 1) (by omega) (by omega), fun c => ?_, fun c => ?_⟩
  · have hne : ¬ t.2.1 = 0 := fun e => c (by rw [t2, e]; rfl)
    have hok : 1 ≤ t.2.1 ∧ t.2.1 ≤ 40 ∧ t.2.2 ≤ 9999 := by
      rcases ok.2 with q | q
      · exact absurd q.1 hne
      · exact q
    refine ⟨3, g, 0, t0, ix_nI (j := 0) (by omega) (by omega), 3, g, 1, t0, ix_nI (j := 1) (by omega) (by omega), 3, g, 2, t0, ix_nI (j := 2) (by omega) (by omega), A.cls, ?_⟩
    rw [t1, t2, t3]
    refine (X1_add_ hw A Wσ hlo ok.1 ⟨hok.1, hok.2.1⟩ hok.2.2).ri ?_
    rintro y h' - - k
    unfold makeS
    rw [if_neg hne]
    exact ⟨_, rfl, k⟩
  · have he : t.2.1 = 0 := by
      have := Classical.not_not.mp c
      rw [t2] at this
      refine (nI_eq' (b := 0) ?_ (by omega)).mp this
      rcases ok.2 with q | q <;> omega
    have hx : t.2.2 < 676 := by rcases ok.2 with q | q <;> omega
    refine ⟨3, g, 0, t0, ix_nI (j := 0) (by omega) (by omega), 3, g, 2, t0, ix_nI (j := 2) (by omega) (by omega), A.cls, ?_⟩
    rw [t1, t3]
    refine (X1_alias_ hw A Wσ hlo ok.1 hx).ri ?_
    rintro y h' - - k
    unfold makeS
    rw [if_pos he]
    exact ⟨_, rfl, k⟩
theorem addsS_none {σ σ' : sg_} {ts : List (Nat × Nat × Nat)} (W : WS σ) (ok : ∀ t ∈ ts, okA t) (e : addsS σ ts = (none, σ')) : WS σ' := by
  induction ts generalizing σ with
  | nil =>
    have : σ = σ' := (Prod.mk.inj e).2
    rw [← this]; exact W
  | cons t ts ih =>
    unfold addsS at e
    split at e
    · exact absurd (Prod.mk.inj e).1 (by simp)
    · exact ih (WS_make W (ok t (List.mem_cons_self ..))) (fun u hu => ok u (List.mem_cons_of_mem _ hu)) e
theorem X0_addAll_ (hw : hwf h) (hz : HZ G h) (A : XS G h x S) : Do_ G M_X0_addAll [.ref x] h (PC G x h (adlA S)) := by
  have A0 := A
  obtain ⟨nw, snv, hq, es, a', pd, X, A⟩ := A
  obtain ⟨W, lo, N, B, -⟩ := A.2.1
  obtain ⟨f0, hz0⟩ := hz
  have hpl := (pAll_ok (X := S.2.2.2)).1
  have hpd := A.2.2.2.2.2.2.2.2.1
  refine e_X0_addAll ⟨_, gfx A.1 rfl rfl, Do_.rxn (X0_additionsOf_ hw hz0 A.2.2.2.2.2.2.2) ?_ ?_⟩
  · rintro l h1 w1 s1 ⟨ts, Y, mc, ar, n, f, p1, L1, T1, l1, m1⟩
    have epl : pAll S.2.2.2 = (some ts, (pAll S.2.2.2).2) := Prod.ext p1 rfl
    obtain ⟨okts, lents⟩ := (pAll_ok (X := S.2.2.2)).2 ts p1
    have A1 := A.le l1
    have B1 := B.le l1
    refine ⟨_, gfx A1.1 rfl rfl, B1.cls, (X1_copy_ w1 (l1 _ _ hz0) B1 W).rn ?_⟩
    rintro _ h2 w2 s2 ⟨rfl, N2, B2, l2, m2⟩
    have L2 := L1.le l2
    have T2 : tcells h2 Y ts := T1.kept fun a n f z => l2 _ _ z
    refine ⟨cax L2.1, (J2_iterator_ w2 L2).rn ?_⟩
    rintro _ h3 w3 s3 ⟨rfl, I3, l3, m3⟩
    have B3 := B2.le l3
    have hll : l < hsz h1 := hlt w1 L1.1
    have har : ar < hsz h1 := hlt w1 L1.2.1
    have hYl := L1.len
    have hYt := T1.1
    have hN2 := B2.N
    have key : ∀ (j i : Nat) (h4 : hp_) (σ : sg_) (N4 : Nat), Y.length - i = j → i ≤ Y.length → hwf h4 → hsz h1 ≤ hsz h4 → SHL G (hsz h1) h4 (hsz h1) σ N4 → WS σ → Fr (hsz h1) h1 h4 → IT h4 (hsz h2) l mc i → hm h4 + 4 * N2 ≤ hm h3 + 4 * N4 + 30 * i → addsS S.1 ts = addsS σ (ts.drop i) →
        Go_ G M_X0_addAll 23 [some (.ref x), some (.ref l), some (.ref (hsz h1)), some (.ref (hsz h2)), none, none] [] h4 (PC G x h (adlA S)) := by
      intro j
      induction j with
      | zero =>
        intro i h4 σ N4 hj hi w4 s4 B4 W4 f4 I4 m4 e4
        have I0 := I4
        obtain ⟨lr, I4⟩ := I4
        have hN4 := B4.N
        have L4 : AL G h4 l Y mc ar n f := ⟨f4 _ _ hll L1.1, f4 _ _ har L1.2.1, L1.2.2⟩
        rw [List.drop_of_length_le (by omega)] at e4
        have e5 : addsS S.1 ts = (none, σ) := e4
        refine w_X0_addAll_23 ⟨cax I4, (J13_hasNext_ L4 I0 hi).use ⟨fun _ => ⟨cax L4.1, (J2_size_ L4).use ?_⟩, fun c => ?_⟩⟩
        · refine PC.be (h1 := h1) w1 A1 l1 w4 Le.rfl f4 B4 W4 (by omega) ?_
          unfold adlA
          rw [epl]
          dsimp only
          rw [e5, hYt]
        · rw [decide_eq_false (by omega)] at c
          exact absurd rfl c
      | succ j ih =>
        intro i h4 σ N4 hj hi w4 s4 B4 W4 f4 I4 m4 e4
        have I0 := I4
        obtain ⟨lr, I4⟩ := I4
        have hN4 := B4.N
        have L4 : AL G h4 l Y mc ar n f := ⟨f4 _ _ hll L1.1, f4 _ _ har L1.2.1, L1.2.2⟩
        have hy : Y[i]? = some Y[i] := List.getElem?_eq_getElem (by omega)
        obtain ⟨t, ht, tc⟩ := T1.2 i _ hy
        have okt := okts t (List.mem_of_getElem? ht)
        refine w_X0_addAll_23 ⟨cax I4, (J13_hasNext_ L4 I0 hi).use ⟨fun c => ?_, fun _ => ⟨cax I4, (J13_next_ L4 I0 hy).rn ?_⟩⟩⟩
        · rw [decide_eq_true (by omega)] at c
          exact absurd c (by decide)
        · rintro _ h5 w5 s5 ⟨rfl, e5⟩
          have kp : ∀ q e, q ≠ hsz h2 → hget h4 q = some e → hget h5 q = some e := fun q e hq z => by rw [e5, hset_ne _ _ hq]; exact z
          have m5 : hm h5 = hm h4 := by rw [e5, hm_set]
          have J5 : hget h5 (hsz h2) = some (eO 14 [.int (nI (i + 1)), .int (nI i), .int mc, .ref l]) := by rw [e5]; exact hset_at _ _ _
          have f5 : Fr (hsz h1) h1 h5 := fun q e hq z => kp _ _ (by omega) (f4 q e hq z)
          have B5 : SHL G (hsz h1) h5 (hsz h1) σ N4 := by
            obtain ⟨d, el, ar', n', tl, ta, nt, F, K, a, e1, e2, e3⟩ := B4
            refine ⟨d, el, ar', n', tl, ta, nt, F, K, a.gen (fun q c fs hc z => kp _ _ (hgn z I4 (by
              simp only [List.mem_cons, List.not_mem_nil, or_false] at hc
              simp; omega)) z) (fun f z => kp _ _ (hgn z I4 (by simp)) z) (fun f z => kp _ _ (hgn z I4 (by simp)) z), e1, e2, e3⟩
          have tc5 : tcell h5 Y[i] t := by
            obtain ⟨g, t0, tt⟩ := tc
            exact ⟨g, f5 _ _ (hlt w1 t0) t0, tt⟩
          have tc50 := tc5
          obtain ⟨g, t0, -⟩ := tc50
          refine ⟨3, g, t0, B5.cls, (X1_make_ w5 B5 W4 (by omega) tc5 okt).ri ?_⟩
          rintro y h6 w6 s6 ⟨rfl, ⟨N6, B6, m6⟩, f6⟩
          have hN6 := B6.N
          have hdrop : ts.drop i = t :: ts.drop (i + 1) := drop_at ht
          have nx : ¬ (¬ 0 ≤ (makeS σ t).1 ∧ ¬ (makeS σ t).1 = -5) → Go_ G M_X0_addAll 23 [some (.ref x), some (.ref l), some (.ref (hsz h1)), some (.ref (hsz h2)), none, none] [] h6 (PC G x h (adlA S)) := by
            intro hno
            refine ih (i + 1) h6 _ N6 (by omega) (by omega) w6 (by omega) B6 (WS_make W4 okt) (f5.trans f6.1) ⟨_, f6.2 _ _ J5⟩ (by omega) ?_
            rw [e4, hdrop]
            conv => lhs; unfold addsS
            rw [if_neg hno]
          refine ⟨fun c => nx (fun q => q.1 c), fun c => ⟨fun c2 => nx (fun q => q.2 c2), fun c2 => ?_⟩⟩
          have l6 : Le h h6 := fun q e z => (f5.trans f6.1) q e (by have := hlt hw z; omega) (l1 q e z)
          refine PC.no A0 l6 (by omega) ?_
          unfold adlA
          rw [epl]
          dsimp only
          rw [e4, hdrop]
          unfold addsS
          rw [if_pos ⟨c, c2⟩]
    refine key Y.length 0 h3 S.1 N2 rfl (Nat.zero_le _) w3 (by omega) B3 W ((l2.trans l3).fr _) I3 (by omega) ?_
    rw [List.drop_zero]
  · rintro q h1 w1 s1 ⟨p1, f1, l1, m1⟩
    have epl : pAll S.2.2.2 = (none, (pAll S.2.2.2).2) := Prod.ext p1 rfl
    refine ⟨cax f1, _, gfx f1 rfl rfl, PC.no A0 l1 (by omega) ?_⟩
    unfold adlA
    rw [epl]
theorem KS.xs {nw hq es a pd : Nat} {snv : Value} {X : List Nat} {h' : hp_} {P : List Nat} (A : XSA G h x nw snv hq es a pd X S) (k : KS pd h h') (Y : SB h' pd P) : XS G h' x (S.1, S.2.1, S.2.2.1, P) := by
  obtain ⟨a1, a2, a3, ⟨g, d1, d2, d3⟩, a5, a6, a7, a8⟩ := A
  obtain ⟨s1, s2, va, cd, ml, n, f, s3, -⟩ := a8
  have kO : ∀ q c fs, c ≠ 13 → hget h q = some (eO c fs) → hget h' q = some (eO c fs) := fun q c fs hc z => k _ _ (hgn z s3 (by simp [hc])) (fun n f => by simp) z
  have kR : ∀ q n f, hget h q = some (eR n f) → hget h' q = some (eR n f) := fun q n f z => k _ _ (hgn z s3 (by simp)) (fun n f => by simp) z
  have kS : ∀ {s : Nat} {σ : sg_}, SHX G h es s σ → SHX G h' es s σ := by
    intro s σ Z
    obtain ⟨w, lo, N, ⟨d, el, ar, n, tl, ta, nt, F, K, a, e1, e2, e3⟩, b⟩ := Z
    refine ⟨w, lo, N, ⟨d, el, ar, n, tl, ta, nt, F, K, a.gen (fun q c fs hc z => kO _ _ _ ?_ z) (fun f z => kR _ _ _ z) (fun f z => kR _ _ _ z), e1, e2, e3⟩, b⟩
    simp only [List.mem_cons, List.not_mem_nil, or_false] at hc
    omega
  refine ⟨nw, snv, hq, es, a, pd, X, kO _ _ _ (by omega) a1, kS a2, ?_, ⟨g, kO _ _ _ (by omega) d1, kR _ _ _ d2, d3⟩, a5, a6, fun i q σ h1 h2 => kS (a7 i q σ h1 h2), Y⟩
  rcases a3 with a3 | ⟨sn, σ, b1, b2, b3⟩
  · exact Or.inl a3
  · exact Or.inr ⟨sn, σ, b1, b2, kS b3⟩
theorem KS.km {pd : Nat} {h' : hp_} {fs : List Value} (k : KS pd h h') (z : hget h pd = some (eO 13 fs)) : KM h h' := by
  intro q e c hq
  refine k q e ?_ ?_ hq
  · rcases c with ⟨n, f, rfl⟩ | ⟨gs, rfl⟩ | ⟨f, rfl⟩ <;> exact hgn hq z (by simp)
  · rcases c with ⟨n, f, rfl⟩ | ⟨gs, rfl⟩ | ⟨f, rfl⟩ <;> intro n2 f2 <;> simp
theorem X0_type_ {c : Nat} (hw : hwf h) (A : XS G h x S) (hc : c < 65536) : Do_ G M_X0_type [.ref x, .int (nI c)] h (PC G x h (typA S c)) := by
  have A0 := A
  obtain ⟨nw, snv, hq, es, a', pd, X, A⟩ := A
  have P := A.2.2.2.2.2.2.2
  have hpl := P.2.1
  obtain ⟨va, cd, ml, n, f, s3, -⟩ := P.2.2
  refine e_X0_type ⟨_, gfx A.1 rfl rfl, cax s3, (J5_length_ P).use ⟨fun c1 => ⟨_, gfx A.1 rfl rfl, cax s3, ?_⟩, fun c1 => ?_⟩⟩
  · have hne : ¬ S.2.2.2.length = 60 := fun e => c1 (by rw [e]; rfl)
    refine (J5_append_ hw P (by omega) hc).rn ?_
    rintro _ h1 w1 s1 ⟨rfl, P1, k1, m1⟩
    have x1 := k1 _ _ (hgn A.1 s3 (by simp)) (fun n f => by simp) A.1
    obtain ⟨va', cd', ml', n', f', s3', -⟩ := P1.2.2
    refine ⟨_, gfx x1 rfl rfl, cax s3', (J5_length_ P1).use ?_⟩
    have et : typA S c = (nI (S.2.2.2.length + 1), (S.1, S.2.1, S.2.2.1, S.2.2.2 ++ [c])) := by unfold typA; rw [if_neg hne]
    rw [et]
    refine ⟨_, rfl, ?_, k1.xs A P1, k1.km s3, by omega⟩
    rw [List.length_append, List.length_singleton]
  · have he : S.2.2.2.length = 60 := (nI_eq' (b := 60) (by omega) (by omega)).mp (Classical.not_not.mp c1)
    exact PC.no A0 Le.rfl (by omega) (by unfold typA; rw [if_pos he])
theorem X0_clearPad_ (hw : hwf h) (A : XS G h x S) : Do_ G M_X0_clearPad [.ref x] h (PC G x h (clrA S)) := by
  obtain ⟨nw, snv, hq, es, a', pd, X, A⟩ := A
  have P := A.2.2.2.2.2.2.2
  obtain ⟨va, cd, ml, n, f, s3, -⟩ := P.2.2
  refine e_X0_clearPad ⟨_, gfx A.1 rfl rfl, cax s3, (J5_length_ P).use ⟨_, gfx A.1 rfl rfl, cax s3, (J5_setLength_ P).rv ?_⟩⟩
  rintro h1 w1 s1 ⟨P1, k1, m1⟩
  have ks : KS pd h h1 := fun q e h1 h2 z => k1 q e h1 z
  exact ⟨_, rfl, rfl, ks.xs A P1, ks.km s3, by omega⟩
theorem X0_undo_ (hw : hwf h) (A : XS G h x S) : Do_ G M_X0_undo [.ref x] h (PC G x h (undA S)) := by
  have A0 := A
  obtain ⟨nw, snv, hq, es, a', pd, X, A⟩ := A
  obtain ⟨a1, a2, a3, a4, a5, a6, a7, a8⟩ := A
  have D := a4
  obtain ⟨g0, d1, d2, d3⟩ := a4
  refine e_X0_undo ⟨_, gfx a1 rfl rfl, cax d1, (J3_isEmpty_ D).use ⟨fun c => ⟨_, gfx a1 rfl rfl, cax d1, ?_⟩, fun c => ?_⟩⟩
  · have hX : ¬ X.length = 0 := of_decide_eq_false ((bI_0 _).mp c)
    have hXe : X = X.dropLast ++ [X.getLast (fun e => hX (by rw [e]; rfl))] := (List.dropLast_concat_getLast _).symm
    have hHn : S.2.2.1 ≠ [] := fun e => hX (by rw [a5, e]; rfl)
    have hHe : S.2.2.1 = S.2.2.1.dropLast ++ [S.2.2.1.getLast hHn] := (List.dropLast_concat_getLast _).symm
    have hgl : S.2.2.1.getLast? = some (S.2.2.1.getLast hHn) := List.getLast?_eq_some_getLast hHn
    have a9 := a7
    rw [hXe] at D
    refine (J3_removeLast_ D).rn ?_
    rintro _ h1 w1 s1 ⟨rfl, D1, m1⟩
    have hnx : x ≠ hq := hgn a1 d1 (by simp)
    have hne : x ≠ es := hgn a1 d2 (by simp)
    have kv1 : KV es h h1 := fun q e c1 c2 c3 z => by
      rw [m1.1 q (fun e9 => by rw [e9, d1] at z; exact c2 _ (Option.some.inj z).symm) c3]
      exact z
    have x1 : hget h1 x = some (eO 0 [.ref nw, snv, .ref hq, .ref pd]) := by rw [m1.1 _ hnx hne]; exact a1
    have lastS : SHX G h es (X.getLast (fun e => hX (by rw [e]; rfl))) (S.2.2.1.getLast hHn) := by
      refine a7 (X.length - 1) _ _ ?_ ?_
      · rw [← List.getLast?_eq_getElem?, List.getLast?_eq_some_getLast (fun e => hX (by rw [e]; rfl))]
      · rw [a5, ← List.getLast?_eq_getElem?, hgl]
    have kv : KV es h (hset h1 x (eO 0 [.ref (X.getLast (fun e => hX (by rw [e]; rfl))), snv, .ref hq, .ref pd])) := fun q e c1 c2 c3 z => by
      rw [hset_ne _ _ (fun e9 => by rw [e9, a1] at z; exact c1 _ (Option.some.inj z).symm)]
      exact kv1 q e c1 c2 c3 z
    have D2 := D1.kept (h' := hset h1 x (eO 0 [.ref (X.getLast (fun e => hX (by rw [e]; rfl))), snv, .ref hq, .ref pd])) (hset_ne _ _ (Ne.symm hnx)) (hset_ne _ _ (Ne.symm hne))
    have D20 := D2
    obtain ⟨g2, q1, q2, q3⟩ := D2
    refine ⟨1, (lastS.kv d2 kv1).cls, by simp, _, pfx x1 rfl rfl rfl, _, gfx (hset_at _ _ _) rfl rfl, cax q1, (J3_size_ D20).use ?_⟩
    have et : undA S = (nI (S.2.2.1.length - 1), (S.2.2.1.getLast hHn, S.2.1, S.2.2.1.dropLast, S.2.2.2)) := by unfold undA; rw [hgl]
    rw [et]
    refine ⟨_, rfl, ?_, ⟨_, snv, hq, es, a', pd, X.dropLast, hset_at _ _ _, lastS.kv d2 kv, ?_, D20, ?_, ?_, ?_, ?_⟩, ?_, ?_⟩
    · rw [List.length_dropLast, a5]
    · rcases a3 with a3 | ⟨sn, σ, b1, b2, b3⟩
      · exact Or.inl a3
      · exact Or.inr ⟨sn, σ, b1, b2, b3.kv d2 kv⟩
    · show X.dropLast.length = S.2.2.1.dropLast.length
      rw [List.length_dropLast, List.length_dropLast, a5]
    · show S.2.2.1.dropLast.length ≤ 4
      rw [List.length_dropLast]; omega
    · intro i q σ h1 h2
      have h2 : S.2.2.1.dropLast[i]? = some σ := h2
      have l1 := (List.getElem?_eq_some_iff.mp h1).1
      have l2 := (List.getElem?_eq_some_iff.mp h2).1
      refine (a7 i q σ ?_ ?_).kv d2 kv
      · rw [hXe, List.getElem?_append_left l1]; exact h1
      · rw [hHe, List.getElem?_append_left l2]; exact h2
    · obtain ⟨s1, s2, va, cd, ml, n, f, s3, s4, s5⟩ := a8
      exact ⟨s1, s2, va, cd, ml, n, f, kv _ _ (fun gs => by simp) (fun gs => by simp) (hgn s3 d2 (by simp)) s3, kv _ _ (fun gs => by simp) (fun gs => by simp) (hgn s4 d2 (by simp)) s4, s5⟩
    · intro q e c z
      refine kv q e ?_ ?_ ?_ z
      · rcases c with ⟨n, f, rfl⟩ | ⟨fs, rfl⟩ | ⟨f, rfl⟩ <;> intro gs <;> simp
      · rcases c with ⟨n, f, rfl⟩ | ⟨fs, rfl⟩ | ⟨f, rfl⟩ <;> intro gs <;> simp
      · rcases c with ⟨n, f, rfl⟩ | ⟨fs, rfl⟩ | ⟨f, rfl⟩ <;> exact hgn z d2 (by simp)
    · rw [hm_set, m1.2]; omega
  · have hX : X.length = 0 := of_decide_eq_true ((bI_ne0 _).mp c)
    have hH : S.2.2.1 = [] := List.length_eq_zero_iff.mp (by rw [← a5, hX])
    exact PC.no A0 Le.rfl (by omega) (by unfold undA; rw [hH]; rfl)
theorem X0_keep_ (hw : hwf h) (hz : HZ G h) (A : XS G h x S) : Do_ G M_X0_keep [.ref x] h (PC G x h (kepA S)) := by
  obtain ⟨nw, snv, hq, es, a', pd, X, A⟩ := A
  obtain ⟨W, lo, N, B, -⟩ := A.2.1
  obtain ⟨f0, hz0⟩ := hz
  refine e_X0_keep ⟨_, gfx A.1 rfl rfl, B.cls, (X1_copy_ hw hz0 B W).rn ?_⟩
  rintro _ h1 w1 s1 ⟨rfl, N1, B1, l1, m1⟩
  have hN1 := B1.N
  have A1 := A.le l1
  obtain ⟨a1, a2, a3, a4, a5, a6, a7, a8⟩ := A1
  have D := a4
  obtain ⟨g0, d1, d2, d3⟩ := a4
  have hnx : x ≠ hq := hgn a1 d1 (by simp)
  have hne : x ≠ es := hgn a1 d2 (by simp)
  have kv : KV es h1 (hset h1 x (eO 0 [.ref nw, .ref (hsz h), .ref hq, .ref pd])) := fun q e c1 c2 c3 z => by
    rw [hset_ne _ _ (fun e9 => by rw [e9, a1] at z; exact c1 _ (Option.some.inj z).symm)]
    exact z
  have hes : es < hsz h := by
    obtain ⟨g, e1, e2, e3⟩ := A.2.2.2.1
    exact hlt hw e2
  have now2 := a2.kv d2 kv
  obtain ⟨W2, lo2, N2, B2, -⟩ := now2
  obtain ⟨d, el, ar, n, tl, ta, nt, F, K, B2, eR_, eT, eN⟩ := B2
  have w2 : hwf (hset h1 x (eO 0 [.ref nw, .ref (hsz h), .ref hq, .ref pd])) := hwf_set w1 _ (hlt w1 a1)
  have m2 : hm (hset h1 x (eO 0 [.ref nw, .ref (hsz h), .ref hq, .ref pd])) = hm h1 := hm_set _ _ _
  refine ⟨_, pfx a1 rfl rfl rfl, _, gfx (hset_at _ _ _) rfl rfl, _, gfx B2.1 rfl rfl, cax B2.2.1.1, (X2_count_ w2 B2.2.1).use fun h3 w3 s3 l3 m3 => ?_⟩
  have A2 : XSA G (hset h1 x (eO 0 [.ref nw, .ref (hsz h), .ref hq, .ref pd])) x nw (.ref (hsz h)) hq es a' pd X (S.1, some S.1, S.2.2.1, S.2.2.2) := by
    refine ⟨hset_at _ _ _, a2.kv d2 kv, Or.inr ⟨_, _, rfl, rfl, (SHX.mk B1 W hes).kv d2 kv⟩, D.kept (hset_ne _ _ (Ne.symm hnx)) (hset_ne _ _ (Ne.symm hne)), a5, a6, fun i q σ h1 h2 => (a7 i q σ h1 h2).kv d2 kv, ?_⟩
    obtain ⟨s1, s2, va, cd, ml, n, f, s3, s4, s5⟩ := a8
    exact ⟨s1, s2, va, cd, ml, n, f, kv _ _ (fun gs => by simp) (fun gs => by simp) (hgn s3 d2 (by simp)) s3, kv _ _ (fun gs => by simp) (fun gs => by simp) (hgn s4 d2 (by simp)) s4, s5⟩
  refine ⟨_, rfl, ?_, ⟨_, _, _, _, _, _, _, A2.le l3⟩, ?_, by omega⟩
  · unfold kepA
    rw [eR_, List.length_map, List.length_map]
  · refine (l1.km.tr ?_).tr l3.km
    intro q e c z
    refine kv q e ?_ ?_ ?_ z
    · rcases c with ⟨n, f, rfl⟩ | ⟨fs, rfl⟩ | ⟨f, rfl⟩ <;> intro gs <;> simp
    · rcases c with ⟨n, f, rfl⟩ | ⟨fs, rfl⟩ | ⟨f, rfl⟩ <;> intro gs <;> simp
    · rcases c with ⟨n, f, rfl⟩ | ⟨fs, rfl⟩ | ⟨f, rfl⟩ <;> exact hgn z d2 (by simp)
theorem X0_restore_ (hw : hwf h) (hz : HZ G h) (A : XS G h x S) : Do_ G M_X0_restore [.ref x] h (PC G x h (resA S)) := by
  have A0 := A
  obtain ⟨nw, snv, hq, es, a', pd, X, A⟩ := A
  rcases A.2.2.1 with ⟨b1, b2⟩ | ⟨sn, σ, rfl, b2, b3⟩
  · subst b2
    exact e_X0_restore (Or.inl ⟨gfx A.1 rfl rfl, PC.no A0 Le.rfl (by omega) (by unfold resA; rw [b1])⟩)
  · obtain ⟨W, lo, N, B, -⟩ := b3
    obtain ⟨f0, hz0⟩ := hz
    refine e_X0_restore (Or.inr ⟨_, gfx A.1 rfl rfl, Or.inr ⟨_, gfx A.1 rfl rfl, B.cls, (X1_copy_ hw hz0 B W).rn ?_⟩⟩)
    rintro _ h1 w1 s1 ⟨rfl, N1, B1, l1, m1⟩
    have hN1 := B1.N
    have A1 := A.le l1
    have B2 := B.le l1
    obtain ⟨d, el, ar, n, tl, ta, nt, F, K, B2, eR_, eT, eN⟩ := B2
    refine Or.inr ⟨_, gfx A1.1 rfl rfl, _, gfx B2.1 rfl rfl, cax B2.2.1.1, (X2_count_ w1 B2.2.1).use fun h3 w3 s3 l3 m3 => ?_⟩
    refine PC.be hw A Le.rfl w3 l1 (l3.fr _) (B1.le l3) W (by omega) ?_
    unfold resA
    rw [b2]
    dsimp only
    rw [eR_, List.length_map, List.length_map]
end D27
