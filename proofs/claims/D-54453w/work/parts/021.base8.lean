/-! BASE 8: switches, Object.<init>, getClass, arraycopy, interfaces' own methods -/
set_option maxRecDepth 100000
theorem ofInt_toInt {z : Int} (h1 : -1000 ≤ z) (h2 : z ≤ 1000) : (Int32.ofInt z).toInt = z := by
  rw [Int32.toInt_ofInt]
  have hs : (Int32.size : Nat) = 4294967296 := rfl
  rw [hs]
  exact Int.bmod_eq_of_le (by omega) (by omega)
theorem tswk_of {x : Int32} {K : Nat → Prop} {d : Nat} : ∀ (ts : List Nat) (lo : Int), -1000 ≤ lo → lo + ts.length ≤ 1000 → tswk x K d lo ts → (∃ (j t : Nat), ts[j]? = some t ∧ x.toInt = lo + j ∧ K t) ∨ ((∀ j : Nat, j < ts.length → x.toInt ≠ lo + j) ∧ K d)
  | [], lo, _, _, h => Or.inr ⟨fun j hj => by simp at hj, h⟩
  | t :: ts, lo, h1, h2, h => by
    simp only [List.length_cons] at h2
    by_cases hx : x = Int32.ofInt lo
    · exact Or.inl ⟨0, t, rfl, by rw [hx, ofInt_toInt h1 (by omega)]; simp, h.1 hx⟩
    · rcases tswk_of ts (lo + 1) (by omega) (by omega) (h.2 hx) with ⟨j, t', e1, e2, e3⟩ | ⟨e1, e2⟩
      · exact Or.inl ⟨j + 1, t', by simpa using e1, by rw [e2]; omega, e3⟩
      · refine Or.inr ⟨fun j hj he => ?_, e2⟩
        cases j with
        | zero =>
          refine hx (Int32.toInt_inj.mp ?_)
          rw [ofInt_toInt h1 (by omega), he]; simp
        | succ j => exact e1 j (by simpa using hj) (by rw [he]; omega)
section OK8
variable {G : g_} {m : mt_} {pc : Nat}
theorem o_tsw {dflt lo hi : Int} {offs : Array Int} {len d : Nat} {ts : List Nat} (hd : decode (mB m) pc = .ok (.tableswitch dflt lo hi offs, len)) (h1 : -1000 ≤ lo) (h2 : lo + ts.length ≤ 1000) (hh : hi = lo + ts.length - 1) (hdf : (pc : Int) + dflt = (d : Int)) (hts : offs.toList.map (fun o => (pc : Int) + o) = ts.map (fun (t : Nat) => (t : Int))) : SemOK G m pc (s_tsw lo ts d) := by
  intro L st h Q k hs hk
  unfold s_tsw at hs
  split at hs
  · next x r =>
    rcases tswk_of ts lo h1 h2 hs with ⟨j, t, e1, e2, e3⟩ | ⟨e1, e2⟩
    · have hj : j < ts.length := (List.getElem?_eq_some_iff.mp e1).1
      have h3 : (offs.toList.map (fun o => (pc : Int) + o))[j]? = some (t : Int) := by rw [hts, List.getElem?_map, e1]; rfl
      rw [List.getElem?_map] at h3
      cases ho : offs.toList[j]? with
      | none => rw [ho] at h3; cases h3
      | some off =>
        rw [ho] at h3
        have h4 : (pc : Int) + off = (t : Int) := Option.some.inj h3
        refine Go_.pure0 (fun cx _ _ kk => lv_tableIn (off := off) cx.ex cx.cb hd (by omega) (by omega) ?_ h4 kk) (hk _ _ _ _ e3)
        rw [show (x.toInt - lo).toNat = j by omega, ← Array.getElem?_toList]
        exact ho
    · refine Go_.pure0 (fun cx _ _ kk => lv_tableOut cx.ex cx.cb hd ?_ hdf kk) (hk _ _ _ _ e2)
      rcases Int.lt_or_le x.toInt lo with q | q
      · exact Or.inl q
      · rcases Int.lt_or_le hi x.toInt with q2 | q2
        · exact Or.inr q2
        · exact absurd (show x.toInt = lo + ((x.toInt - lo).toNat : Int) by omega) (e1 _ (by omega))
  · exact hs.elim
def s_oinit (nx : Nat) : sem_ := fun L st h _ k => match st with
  | .ref _ :: r => match Nat.ble r.length 4 with
    | true => k nx L r h
    | false => False
  | _ => False
theorem o_oinit {i : Nat} (hd : decode (mB m) pc = .ok (.invokespecial i, 3)) (h1 : Cond.methodLink (mY m).cls i Lib.objectInit ∈ lw_all) (h2 : Cond.instanceMethod Lib.objectInit ∈ lw_all) (h3 : Cond.code Lib.objectInit ⟨#[0xb1]⟩ 1 none ∈ lw_all) (hF : 1 ≤ mF m) (hO : 20 ≤ mO m) : SemOK G m pc (s_oinit (pc + 3)) := by
  intro L st h Q k hs hk
  unfold s_oinit at hs
  split at hs
  · next a r =>
    split at hs
    · next h4 =>
      refine Go_.pure0 (fun cx lr _ kk => ?_) (hk _ _ _ _ hs)
      have := sum8 h4
      refine W.objInit cx.ex cx.cb cx.ow (cx.ws _ h1) (cx.ws _ h2) (cx.ws _ h3) rfl (by rw [cx.ml]; exact lr.1) rfl hd (by rw [cx.fr]; exact hF) ?_ kk
      rw [cx.lo]
      show 2 * 0 + _ + 12 ≤ _
      omega
    · exact hs.elim
  · exact hs.elim
abbrev getC_ : MethodName := ⟨"java/lang/Object", "getClass", "()Ljava/lang/Class;"⟩
def s_getC (nx : Nat) : sem_ := fun L st h _ k => match st with
  | .ref a :: r => match Nat.ble r.length 4 with
    | true => ∃ n f, hget h a = some (eR n f) ∧ n ≠ 0 ∧ k nx L (.ref (gM G) :: r) h
    | false => False
  | _ => False
theorem o_getC {i : Nat} (hd : decode (mB m) pc = .ok (.invokevirtual i, 3)) (h1 : Cond.methodLink (mY m).cls i getC_ ∈ lw_all) (h2 : Cond.declares getC_ ∈ lw_tbl) (h3 : Cond.selects "[Ljava/lang/Object;" getC_ getC_ ∈ lw_all) (h4 : Cond.instanceMethod getC_ ∈ lw_all) (h5 : Cond.native getC_ ∈ lw_all) (hF : 1 ≤ mF m) (hO : 22 ≤ mO m) : SemOK G m pc (s_getC (G := G) (pc + 3)) := by
  intro L st h Q k hs hk
  unfold s_getC at hs
  split at hs
  · next a r =>
    split at hs
    · next h8 =>
      obtain ⟨n, f, hg, hn, hs⟩ := hs
      refine Go_.pure0 (fun cx lr rp kk => ?_) (hk _ _ _ _ hs)
      have := sum8 h8
      obtain ⟨-, hat⟩ := rp.at hg (fun f' e => by have : n = 0 := by (injection e with e; injection e with e; exact congrArg Prod.fst e)
                                                  omega)
      obtain ⟨kA', comp', r1, r2, r3, r4⟩ := (cx.en.1.2 2 _ rfl).2
      refine va_getC cx.ex cx.cb (by rw [cx.ml]; exact lr.1.symm) cx.ow (cx.ws _ h1) (cx.en.use h2 rfl) (cx.ws _ h3) (cx.ws _ h4) (cx.ws _ h5) cx.en.2.2.2.1 ⟨_, hat, rfl, r4⟩ (by rw [cx.fr]; exact hF) ?_ hd kk
      rw [cx.lo]
      omega
    · exact hs.elim
  · exact hs.elim
/-- System.arraycopy of references, of bytes -/
def s_cpyR (nx : Nat) : sem_ := fun L st h _ k => match st with
  | .int n :: .int dp :: .ref a :: .int sp :: .ref a0 :: r => match Nat.ble r.length 4 with
    | true => ∃ n0 f n1 g s d w, hget h a0 = some (eR n0 f) ∧ hget h a = some (eR n1 g) ∧ 0 < n0 ∧ 0 < n1 ∧ sp = nI s ∧ dp = nI d ∧ n = nI w ∧ s < 2 ^ 31 ∧ d < 2 ^ 31 ∧ w < 2 ^ 31 ∧ s + w ≤ n0 ∧ d + w ≤ n1 ∧ (∀ i y, i < w → f (s + i) = some y → obk h y) ∧ k nx L r (hset h a (eR n1 (va_cpy f g s d w)))
    | false => False
  | _ => False
def s_cpyB (nx : Nat) : sem_ := fun L st h _ k => match st with
  | .int n :: .int dp :: .ref a :: .int sp :: .ref a0 :: r => match Nat.ble r.length 4 with
    | true => ∃ n0 f n1 g s d w, hget h a0 = some (eB n0 f) ∧ hget h a = some (eB n1 g) ∧ sp = nI s ∧ dp = nI d ∧ n = nI w ∧ s < 2 ^ 31 ∧ d < 2 ^ 31 ∧ w < 2 ^ 31 ∧ s + w ≤ n0 ∧ d + w ≤ n1 ∧ (∀ i, i < w → fits .byte (.int (f (s + i))) = true) ∧ k nx L r (hset h a (eB n1 (va_cpy f g s d w)))
    | false => False
  | _ => False
theorem o_cpyR {i : Nat} (hd : decode (mB m) pc = .ok (.invokestatic i, 3)) (h1 : Cond.methodLink (mY m).cls i arraycopyName ∈ lw_all) (h2 : Cond.native arraycopyName ∈ lw_all) (h3 : Cond.static arraycopyName ∈ lw_all) (h4 : Cond.initialized "java/lang/System" ∈ lw_all) (hF : 1 ≤ mF m) (hO : 26 ≤ mO m) : SemOK G m pc (s_cpyR (pc + 3)) := by
  intro L st h Q k hs hk
  unfold s_cpyR at hs
  split at hs
  · next n dp a sp a0 r =>
    split at hs
    · next h8 =>
      obtain ⟨n0, f, n1, g, s, d, w, hg0, hg1, z0, z1, rfl, rfl, rfl, b1, b2, b3, l1, l2, hob, hs⟩ := hs
      refine Go_.write (fun hw => hwf_set hw _ (hlt hw hg1)) rfl rfl (fun cx lr rp hl he kk => ?_) (hk _ _ _ _ hs)
      have hr8 := sum8 h8
      have cs := nI_clamp b1
      have cd := nI_clamp b2
      have cw := nI_clamp b3
      obtain ⟨q0, hq0⟩ := wsOf_get rp hg0 (fun f' e => by have : n0 = 0 := by (injection e with e; injection e with e; exact congrArg Prod.fst e)
                                                          omega)
      obtain ⟨q1, hq1⟩ := wsOf_get rp hg1 (fun f' e => by have : n1 = 0 := by (injection e with e; injection e with e; exact congrArg Prod.fst e)
                                                          omega)
      refine va_copyM cx.ex cx.cb (by rw [cx.ml]; exact lr.1.symm) cx.ow (cx.ws _ h1) (cx.ws _ h2) (cx.ws _ h3) (cx.ws _ h4) cx.en.1 rp.ws rp.wd (S_rf hl) q0 q1 2 2 hq0 hq1 rfl rfl (nI_pos b1) (nI_pos b2) (nI_pos b3) (by rw [cs, cw]; exact l1) (by rw [cd, cw]; exact l2)
        (fun i hi y hy => obk_any cx.en rp (hob i y (by rw [cw] at hi; exact hi) (by rw [cs] at hy; exact hy))) (by rw [cx.fr]; exact hF) ?_ hd fun H1 locs1 hP1 _ hS1 => W_sz fun hz => kk H1 locs1 (rp.back (e' := eR n1 (va_cpy f g s d w)) hq1 (by rw [cs, cd, cw] at hP1; exact hP1) hS1 (by rw [rp.1, he]; exact hz)) hS1.2.2
      rw [cx.lo]
      show _ + (7 + 11) ≤ _
      omega
    · exact hs.elim
  · exact hs.elim
theorem o_cpyB {i : Nat} (hd : decode (mB m) pc = .ok (.invokestatic i, 3)) (h1 : Cond.methodLink (mY m).cls i arraycopyName ∈ lw_all) (h2 : Cond.native arraycopyName ∈ lw_all) (h3 : Cond.static arraycopyName ∈ lw_all) (h4 : Cond.initialized "java/lang/System" ∈ lw_all) (hF : 1 ≤ mF m) (hO : 26 ≤ mO m) : SemOK G m pc (s_cpyB (pc + 3)) := by
  intro L st h Q k hs hk
  unfold s_cpyB at hs
  split at hs
  · next n dp a sp a0 r =>
    split at hs
    · next h8 =>
      obtain ⟨n0, f, n1, g, s, d, w, hg0, hg1, rfl, rfl, rfl, b1, b2, b3, l1, l2, hfit, hs⟩ := hs
      refine Go_.write (fun hw => hwf_set hw _ (hlt hw hg1)) rfl rfl (fun cx lr rp hl he kk => ?_) (hk _ _ _ _ hs)
      have hr8 := sum8 h8
      have cs := nI_clamp b1
      have cd := nI_clamp b2
      have cw := nI_clamp b3
      obtain ⟨q0, hq0⟩ := wsOf_get rp hg0 (fun f => by simp)
      obtain ⟨q1, hq1⟩ := wsOf_get rp hg1 (fun f => by simp)
      refine va_copyi cx.ex cx.cb (by rw [cx.ml]; exact lr.1.symm) cx.ow (cx.ws _ h1) (cx.ws _ h2) (cx.ws _ h3) (cx.ws _ h4) cx.en.1 rp.ws rp.wd (S_rf hl) q0 q1 1 1 hq0 hq1 rfl rfl rfl (nI_pos b1) (nI_pos b2) (nI_pos b3) (by rw [cs, cw]; exact l1) (by rw [cd, cw]; exact l2)
        (fun i hi => by rw [cs]; exact hfit i (by rw [cw] at hi; exact hi)) (by rw [cx.fr]; exact hF) ?_ hd fun H1 locs1 hP1 _ hS1 => W_sz fun hz => kk H1 locs1 (rp.back (e' := eB n1 (va_cpy f g s d w)) hq1 (by rw [cs, cd, cw] at hP1; exact hP1) hS1 (by rw [rp.1, he]; exact hz)) hS1.2.2
      rw [cx.lo]
      show _ + (7 + 11) ≤ _
      omega
    · exact hs.elim
  · exact hs.elim
theorem backOf {len : Nat} {m' : mt_} {av : List Value} {h h1 : hp_} {o : o_} {p : Program} {e : Env} {R : Room} {s : State} {mi : MethodId} {args : Array Value} {below : List Frame} {meth : Method} {c : Code} (hM : Met (gl G) (mY m') (ws_ (mY m') (mB m') (mL m') (mR m')) (rmO m' h h1) (va_Pc av (fun U => En G U ∧ Rep G h U U.heap)) (QcO G o h1) (hsz h1 - hsz h) (hsl h1 - hsl h) (gA G))
    (cx : Cx G m p R s mi args meth c) (hF : mF m' + 1 ≤ mF m) (hO : 19 + mL m' + mO m' ≤ mO m) (h5 : Cond.code (mY m') (mB m') (mL m') (mR m') ∈ lw_all) (h4 : Cond.initialized (mY m').cls ∈ lw_all) :
    Back (gl G) R p e below s args (mY m') len 8 (PreOf R (hsz h1 - hsz h) (hsl h1 - hsl h) (va_Pc av (fun U => En G U ∧ Rep G h U U.heap))) (PostOf (QcO G o h1) (hsz h1 - hsz h) (hsl h1 - hsl h) (gA G)) :=
  back_of (bytes := mB m') (maxL := mL m') (ret := mR m') hM (pre_bl _ h) rfl rfl (by rw [cx.fr]; exact hF) (by rw [cx.lo]; show 8 + (mL m' + 11) + mO m' ≤ _; omega) (pay_in cx.ws (lw_meth h5)) List.mem_cons_self (fun a' U hW => word_at hW (Or.inl rfl) (cx.ws _ h4))
/-- by an interface that has the method from another (Walked.iterator) -/
theorem run_FU {m' : mt_} {n i cnt ci : Nat} {q : vw_C} {x : MethodName} {J : String} (hd : decode (mB m) pc = .ok (.invokeinterface i cnt, 5)) (hq : cls_[ci]? = some q)
    (hlink : ∀ (s : State) (A : Array Value), En G s → (Cond.methodLink (mY m).cls i x).before A s = true) (hface : ∀ (s : State) (A : Array Value), En G s → (Cond.interfaceMethod x.cls J x.name x.desc).before A s = true) (hxo : x.cls ≠ J) (f1 : Cond.declares ⟨J, x.name, x.desc⟩ ∈ lw_tbl) (fp : Cond.publicMethod ⟨J, x.name, x.desc⟩ ∈ lw_tbl)
    (h3 : ∀ (s : State) (A : Array Value), En G s → (∀ w ∈ lw_all, w.before A s = true) → (Cond.selects q.1 x (mY m')).before A s = true) (h2 : Cond.instanceMethod (mY m') ∈ lw_all) (h4 : Cond.initialized (mY m').cls ∈ lw_all) (h5 : Cond.code (mY m') (mB m') (mL m') (mR m') ∈ lw_all)
    (f3 : Cond.publicMethod (mY m') ∈ lw_tbl) (f4 : Cond.unhidden q.1 x.name x.desc ∈ lw_tbl) (f5 : Cond.castable q.1 x.cls ∈ lw_tbl) (hk : cokD m m' n)
    (hd9 : (x.cls ≠ "java/lang/invoke/MethodHandle" ∧ x.cls ≠ "java/lang/invoke/VarHandle") ∧ (parseMethodDescriptor x.desc).map (fun d => d.parameters.length) = some n) : RunOK G m pc 5 (n + 1) m' false (some ci) := by
  intro av r L h p e R s mi args below meth c H locs cells slots ls hn h8 hrc cx lr rp o hh1 ho hC hroom
  obtain ⟨b, as, rfl, hcl⟩ := hrc
  obtain ⟨hd2, hF, hO, hH⟩ := hk
  rw [stk]
  have hM := hC.met hH (ho rfl)
  refine Rn_.of5 ?_
  obtain ⟨hfc, kB, hkB, -⟩ := (cx.en.1.1 ci q hq).2
  intro T hT X
  obtain ⟨cellB, c1, c2, c3⟩ := recv_at cx.en rp hcl hq
  obtain ⟨v, vm₁, ⟨U', l2, cc2, s2⟩, hW₁, X', ⟨g', mk, t, Ls, e1, e2, hqq, g1, hL, g2, g3⟩, st⟩ := X.interfaceBackUp cx.ex (C := q.1) (J := J) (xi := x) (y := mY m') cx.ow (hlink s args cx.en) (cx.en.use f1 rfl) (cx.en.use fp rfl) (hface s args cx.en) hxo (h3 s args cx.en cx.ws) (cx.ws _ h2) (cx.en.use f3 rfl) (cx.en.use f4 rfl) (cx.en.use f5 rfl) hd9.1 (backOf (len := 5) (e := e) (below := below) hM cx hF hO h5 h4) hfc hkB
    (show IsOf _ T b from ⟨cellB, by rw [hT]; exact c1, Option.some.inj (c3.symm.trans hfc), c2⟩) (g := F0 mi pc ls (as.reverse ++ .ref b :: r)) rfl (by rw [cx.ml]; exact lr.1) (Steps.refl _) (argsL := as) (rest := r) (fun sig hsig => by
      have := hd9.2
      rw [hsig] at this
      have hz : as.length = n := by simpa using hn
      rw [hz]; exact (Option.some.inj this).symm) rfl (lv_room h8) (by rw [cx.cb]; exact hd) (fun vm₁ hW₁ => ⟨hroom.1, hroom.2, pre_U cx.en rp _ (T.setVm vm₁) hT hW₁⟩)
  dsimp only [Pt.U, Pt.locs, Pt.cells, Pt.slots] at X' e1 e2 g1 g2 g3 st
  subst g1; subst g2; subst g3
  exact ⟨v, (T.setVm vm₁).calling g' mk (Value.ref b :: as).toArray, t, U', Ls, hT, X', hL, e1, e2, hqq, fun target ht => st.trans ht⟩
/-- by an interface, its own default method -/
theorem run_FD {m' : mt_} {n i cnt ci : Nat} {q : vw_C} (hd : decode (mB m) pc = .ok (.invokeinterface i cnt, 5)) (hq : cls_[ci]? = some q) (h1 : Cond.methodLink (mY m).cls i (mY m') ∈ lw_all)
    (f1 : Cond.declares (mY m') ∈ lw_tbl) (f2 : Cond.interfaceMethod (mY m').cls (mY m').cls (mY m').name (mY m').desc ∈ lw_tbl) (hf2 : okT_ (Cond.interfaceMethod (mY m').cls (mY m').cls (mY m').name (mY m').desc) = true)
    (hl : ∀ (s : State), En G s → (Cond.landsInDefault q.1 (mY m') (mY m')).before #[] s = true) (h2 : Cond.instanceMethod (mY m') ∈ lw_all) (h4 : Cond.initialized (mY m').cls ∈ lw_all) (h5 : Cond.code (mY m') (mB m') (mL m') (mR m') ∈ lw_all)
    (f3 : Cond.publicMethod (mY m') ∈ lw_tbl) (f5 : Cond.castable q.1 (mY m').cls ∈ lw_tbl) (hk : cokD m m' n) : RunOK G m pc 5 (n + 1) m' false (some ci) := by
  intro av r L h p e R s mi args below meth c H locs cells slots ls hn h8 hrc cx lr rp o hh1 ho hC hroom
  obtain ⟨b, as, rfl, hcl⟩ := hrc
  obtain ⟨hd2, hF, hO, hH⟩ := hk
  rw [stk]
  have hM := hC.met hH (ho rfl)
  refine Rn_.of5 ?_
  obtain ⟨hfc, kB, hkB, -⟩ := (cx.en.1.1 ci q hq).2
  intro T hT X
  obtain ⟨cellB, c1, c2, c3⟩ := recv_at cx.en rp hcl hq
  obtain ⟨v, vm₁, ⟨U', l2, cc2, s2⟩, hW₁, X', ⟨g', mk, t, Ls, e1, e2, hqq, g1, hL, g2, g3⟩, st⟩ := X.interfaceBackD cx.ex (C := q.1) (xi := mY m') (y := mY m') cx.ow (cx.ws _ h1) (cx.en.use f1 rfl) (cx.en.use f2 hf2) (by rw [lands_any (A' := #[])]; exact hl s cx.en) (cx.ws _ h2) (cx.en.use f3 rfl) (cx.en.use f5 rfl) ⟨hd2.1, hd2.2.1⟩ (backOf (len := 5) (e := e) (below := below) hM cx hF hO h5 h4) hfc hkB
    (show IsOf _ T b from ⟨cellB, by rw [hT]; exact c1, Option.some.inj (c3.symm.trans hfc), c2⟩) (g := F0 mi pc ls (as.reverse ++ .ref b :: r)) rfl (by rw [cx.ml]; exact lr.1) (Steps.refl _) (argsL := as) (rest := r) (fun sig hsig => by
      have := hd2.2.2
      rw [hsig] at this
      have hz : as.length = n := by simpa using hn
      rw [hz]; exact (Option.some.inj this).symm) rfl (lv_room h8) (by rw [cx.cb]; exact hd) (fun vm₁ hW₁ => ⟨hroom.1, hroom.2, pre_U cx.en rp _ (T.setVm vm₁) hT hW₁⟩)
  dsimp only [Pt.U, Pt.locs, Pt.cells, Pt.slots] at X' e1 e2 g1 g2 g3 st
  subst g1; subst g2; subst g3
  exact ⟨v, (T.setVm vm₁).calling g' mk (Value.ref b :: as).toArray, t, U', Ls, hT, X', hL, e1, e2, hqq, fun target ht => st.trans ht⟩
end OK8
/-- a private method of a class above the receiver's -/
theorem selP_ {s : State} {G : g_} {A : Array Value} (en : En G s) {y : MethodName} {ci : Nat} {q : vw_C} (hq : cls_[ci]? = some q) (hy : y.cls ≠ "java/lang/invoke/MethodHandle" ∧ y.cls ≠ "java/lang/invoke/VarHandle")
    (hpriv : (Cond.privateMethod y).before A s = true) (hinst : (Cond.instanceMethod y).before A s = true) (hsm : (Cond.sameMethod y.cls y.cls y.name y.desc).before A s = true) : (Cond.selects q.1 y y).before A s = true := by
  obtain ⟨hc, -⟩ := (en.1.1 ci q hq).2
  obtain ⟨mk, methM, hnamed, hmethM, -, -⟩ := Cond.instanceMethod_spec hinst
  have hfound : s.methodFound? y.cls y.name y.desc = some mk := State.methodFound?_of_named hnamed hy
  have hsel : ∀ c : ClassId, selectMethod {} s.vm c mk = .method mk := fun c => selectMethod_private hmethM (Cond.privateMethod_at hpriv mk methM hnamed hmethM)
  obtain ⟨cn, ck, r1, hcn, hck, hni, hf, hn1⟩ := Cond.sameMethod_found hsm
  have hcls : mk.cls = cn := Option.some.inj ((findClass_of_methodNamed hnamed).symm.trans hcn)
  simp only [Cond.before, Cond.holds, Cond.value, hc, hfound, hnamed, hsel, hcls, hck]
  simp; exact hni
theorem run_UP {G : g_} {m m' : mt_} {pc n i ci : Nat} {q : vw_C} (hd : decode (mB m) pc = .ok (.invokevirtual i, 3)) (hq : cls_[ci]? = some q) (h1 : Cond.methodLink (mY m).cls i (mY m') ∈ lw_all) (hsm : Cond.sameMethod (mY m').cls (mY m').cls (mY m').name (mY m').desc ∈ lw_all) (hp : Cond.privateMethod (mY m') ∈ lw_tbl) (h2 : Cond.instanceMethod (mY m') ∈ lw_all) (h4 : Cond.initialized (mY m').cls ∈ lw_all) (h5 : Cond.code (mY m') (mB m') (mL m') (mR m') ∈ lw_all) (hk : cokD m m' n) : RunOK G m pc 3 (n + 1) m' false (some ci) := by
  intro av r L h p e R s mi args below meth c H locs cells slots ls hn h8 hrc cx lr rp o hh1 ho hC hroom
  obtain ⟨b, as, rfl, hcl⟩ := hrc
  obtain ⟨hd2, hF, hO, hH⟩ := hk
  rw [stk]
  have hM := hC.met hH (ho rfl)
  have hr := roomO (m' := m') (R := R) (by rw [cx.fr]; exact hF) (by rw [cx.lo]; exact hO) h hh1
  refine Rn_.of3 (va_runU (As := as) (x := mY m') (owner := (mY m').cls) (n := n) cx.fix hM ⟨⟨rfl, rfl, hr.1, hr.2, pay_in cx.ws (lw_meth h5), List.mem_cons_self⟩, cx.ws _ h5, cx.ws _ h4, ⟨hd2.1, hd2.2.1⟩, fun sig hsig => ?_, cx.ws _ h1, cx.ws _ hsm, va_Decl.of (cx.ws _ h2) (cx.ws _ h5), selP_ cx.en hq ⟨hd2.1, hd2.2.1⟩ (cx.en.use hp rfl) (cx.ws _ h2) (cx.ws _ hsm), cx.ws _ h2⟩ (preV cx.en rp hcl hq) rfl (by simpa using hn) lr.1 rfl (lv_room h8) hd hroom)
  have := hd2.2.2
  rw [hsig] at this
  exact (Option.some.inj this).symm
/-- selects by Walked's iterator is selects by Iterable's: the same method is found -/
theorem selW_ {s : State} {G : g_} {A : Array Value} {C : String} {y : MethodName} (en : En G s) (h : (Cond.selects C itI_ y).before A s = true) : (Cond.selects C itW_ y).before A s = true := by
  have hface : (Cond.interfaceMethod "MemberShelf$Walked" "java/lang/Iterable" "iterator" "()Ljava/util/Iterator;").before A s = true := va_tabs rfl rfl en.2.2.2.2.2.2.2.1
  obtain ⟨cL, kL, r1, hcL, hkL, hiL, hfoundL, hn1⟩ := Cond.interfaceMethod_spec hface
  have hf2 : s.methodFound? itI_.cls itI_.name itI_.desc = some r1 := State.methodFound?_of_named hn1 ⟨by decide, by decide⟩
  have e : (Cond.selects C itW_ y).before A s = (Cond.selects C itI_ y).before A s := by
    have hfL : s.methodFound? itW_.cls itW_.name itW_.desc = some r1 := hfoundL
    simp only [Cond.before, Cond.holds, Cond.value, hf2, hfL]
  rw [e]
  exact h
theorem RunOK.nt {G : g_} {m m' : mt_} {pc len n : Nat} {rc : Option Nat} (h : RunOK G m pc len n m' true rc) : RunOK G m pc len n m' false rc := by
  intro av r L h0 p e R s mi args below meth c H locs cells slots ls hn h8 hrc cx lr rp o hh1 ho hC hroom
  exact h hn h8 hrc cx lr rp o hh1 (fun e => by cases e) hC hroom
