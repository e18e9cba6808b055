/-! BASE 10: a Fault is made -/
set_option maxRecDepth 100000
abbrev fN_ : String := "MemberShelf$Fault"
abbrev eN_ : String := "java/lang/Exception"
def FA_ : List Cond := Bundle.throwableAtoms ++ Bundle.chain0Atoms eN_ [] ++
  [.methodLink fN_ 1 (Bundle.init0 eN_), .instantiable fN_ 7, .selects fN_ Bundle.tFill0 Bundle.tFill0, .selects fN_ Bundle.tFill Bundle.tFill,
   .lays fN_ Bundle.tN "cause" "Ljava/lang/Throwable;", .lays fN_ Bundle.tN "stackTrace" Bundle.steD, .lays fN_ Bundle.tN "suppressedExceptions" Bundle.listD,
   .isRef (.static Bundle.tN "UNASSIGNED_STACK" Bundle.steD), .isRef (.static Bundle.tN "SUPPRESSED_SENTINEL" Bundle.listD),
   .fieldLink Bundle.tN 198 Bundle.tN "backtrace" "Ljava/lang/Object;", .lays Bundle.tN Bundle.tN "backtrace" "Ljava/lang/Object;", .lays fN_ Bundle.tN "backtrace" "Ljava/lang/Object;", .laysFinal fN_ fN_ "place" "I"]
section FC
variable {p : Program} {l : Launch} {e : Env} {R : Room} {s : State} {m₀ : MethodId} {args : Array Value} {below : List Frame} {meth : Method} {c : Code} {W : State}
theorem fl_ctor (X : Stand p l e R s m₀ args below meth c W [] 0 0) (hexec : p.tables.exec = Jvm.exec) (htr : e.platform.stackTraces = false)
    (hown : s.vm.findClass fN_ = some m₀.cls) (h : ∀ a ∈ FA_, a.before args s = true)
    {a : Addr} {cX : ClassId} {kX : Class} (hfoundX : s.vm.findClass fN_ = some cX) (hkX : s.vm.classes[cX]? = some kX) (hcell : W.heap[a]? = some (freshCell cX kX))
    {g : JFrame} (hg : g.method = m₀) (hsize : g.locals.size = c.maxLocals) {rest : List Value} (hstack : g.stack = .ref a :: rest)
    (hd6 : decode c.code g.pc = .ok (.invokespecial 1, 3))
    (hRframes : 3 < R.frames) (hRlocals : 2 * g.monitorRoom + (rest.map fun v => v.category).sum + 54 ≤ R.locals) {iP : Nat} (hP : SlotIs s fN_ "place" "I" iP) :
    ∃ (V : State) (ce : Cell) (L : List Loc), Stand p l e R s m₀ args below meth c (V.setCell a ce) L 0 0 ∧ (∀ y ∈ L, y.base = a) ∧ V.heap = W.heap ∧ ce.cls = cX ∧ ce.vm = .none ∧ ce.slots[iP]? = (freshCell cX kX).slots[iP]? ∧
      ∀ target, Steps p.tables e below ((V.setCell a ce).setTop { g with stack := rest, pc := g.pc + 3 }) target → Steps p.tables e below (W.setTop g) target := by
  have howns : e.platform.frameOwnsMonitors = true := by rw [X.admits.platform]
  have hfin : e.platform.finalization = false := by rw [X.admits.platform]
  have hpl : e.platform.magicAccessors = ({} : Platform).magicAccessors := by rw [X.admits.platform]
  have a' : ∀ x, x ∈ FA_ → x.holds args s none s [] = true := fun x hx => h x hx
  obtain ⟨T, Z, L, LZ, Y⟩ := ThrowableC.of_atoms (args := args) howns hfin hpl (fun x hx => h x (by simp [FA_, hx]))
  obtain ⟨P1, Ps, hlen, L1, hL, hP1m, hlink1, hlink⟩ := Bundle.chain0 (args := args) hpl Y.init0 [] eN_ (by decide +kernel) (fun n hn => nomatch hn) (fun x hx => h x (by simp [FA_, hx]))
  obtain rfl : Ps = [] := List.length_eq_zero_iff.mp hlen
  obtain ⟨c1, kX', hc1, hk, hord, -, -, hn6⟩ := Cond.instantiable_spec (a' (.instantiable fN_ 7) (by simp [FA_]))
  cases Option.some.inj (hc1.symm.trans hfoundX)
  cases Option.some.inj (hkX.symm.trans hk)
  have hfound := hfoundX
  have hsel0 : selectMethod e.platform s.vm cX T.fill0 = .method T.fill0 := by
    obtain ⟨c2, r2, m2, q1, q2, q3, q4, -⟩ := Cond.selects_spec (a' (.selects fN_ Bundle.tFill0 Bundle.tFill0) (by simp [FA_]))
    cases Option.some.inj (q1.symm.trans hfound)
    cases Option.some.inj (q2.symm.trans (State.methodFound?_of_named Y.fill0 (by decide)))
    cases Option.some.inj (q3.symm.trans Y.fill0)
    rw [Launch.admits_selectMethod X.admits]; exact q4
  have hselF : selectMethod e.platform s.vm cX T.fill = .method T.fill := by
    obtain ⟨c2, r2, m2, q1, q2, q3, q4, -⟩ := Cond.selects_spec (a' (.selects fN_ Bundle.tFill Bundle.tFill) (by simp [FA_]))
    cases Option.some.inj (q1.symm.trans hfound)
    cases Option.some.inj (q2.symm.trans (State.methodFound?_of_named Y.fill (by decide)))
    cases Option.some.inj (q3.symm.trans Y.fill)
    rw [Launch.admits_selectMethod X.admits]; exact q4
  obtain ⟨cellS0, hcS0, hiss⟩ := Y.statics
  obtain ⟨u0, hu0⟩ := Cond.staticRefV Y.unassigned L.unassignedStatic L.statics hcS0 hiss (a' (.isRef (.static Bundle.tN "UNASSIGNED_STACK" Bundle.steD)) (by simp [FA_]))
  obtain ⟨sen, hsen⟩ := Cond.staticRefV Y.sentinel L.sentinelStatic L.statics hcS0 hiss (a' (.isRef (.static Bundle.tN "SUPPRESSED_SENTINEL" Bundle.listD)) (by simp [FA_]))
  obtain ⟨ci198, i198, fB, hk198, hg198, ha198, hsB, -, hnB, htB, hffB⟩ := Cond.ownField (t := .object "java/lang/Object") Y.found L.cls (by decide +kernel) (a' (.fieldLink Bundle.tN 198 Bundle.tN "backtrace" "Ljava/lang/Object;") (by simp [FA_])) (a' (.lays Bundle.tN Bundle.tN "backtrace" "Ljava/lang/Object;") (by simp [FA_])) e.platform hpl
  obtain ⟨cellS, hcS', heS, -, hkeep⟩ := X.same.2.2.2.2.2 T.aS cellS0 hcS0
  have hcellS : W.heap[T.aS]? = some cellS := hcS'
  have hout' : ∀ i, (⟨T.aS, i⟩ : Loc) ∉ ([] : List Loc) := fun i hmem => nomatch hmem
  have hvmS : cellS.vm = cellS0.vm := by rw [heS]
  have hknownS : cellS.vm ≠ .unknown := by
    rw [hvmS]; intro hu
    rw [hu] at hiss
    cases hiss
  have hneS : T.aS ≠ a := by
    intro e9
    rw [e9, hcell] at hcellS
    have e8 := Option.some.inj hcellS
    rw [← hvmS, ← e8] at hiss
    cases hiss
  obtain ⟨tyC, dC, hdC, hdnC⟩ := Cond.laysAt hfound hk Y.cause (a' (.lays fN_ Bundle.tN "cause" "Ljava/lang/Throwable;") (by simp [FA_]))
  obtain ⟨tyS, dS, hdS, hdnS⟩ := Cond.laysAt hfound hk Y.stack (a' (.lays fN_ Bundle.tN "stackTrace" Bundle.steD) (by simp [FA_]))
  obtain ⟨tyP, dP, hdP, hdnP⟩ := Cond.laysAt hfound hk Y.supp (a' (.lays fN_ Bundle.tN "suppressedExceptions" Bundle.listD) (by simp [FA_]))
  obtain ⟨tyB, dB, hdB, hdnB⟩ := Cond.laysAt hfound hk hffB (a' (.lays fN_ Bundle.tN "backtrace" "Ljava/lang/Object;") (by simp [FA_]))
  have bC := Cond.laysApart hdB hdC hdnB hdnC (by rw [hnB, Y.causeName]; decide)
  have bS := Cond.laysApart hdB hdS hdnB hdnS (by rw [hnB, Y.stackName]; decide)
  have bP := Cond.laysApart hdB hdP hdnB hdnP (by rw [hnB, Y.suppName]; decide)
  obtain ⟨cp, kp, ip, fp, hip, hip2⟩ := hP
  have hpn : fp.name = "place" := (State.fieldFound?_type (t := .int) hip (by decide +kernel)).1
  have lp : (Cond.lays fN_ fN_ "place" "I").before args s = true ∨ (Cond.laysFinal fN_ fN_ "place" "I").before args s = true := Or.inr (h _ (by simp [FA_]))
  have pC : fp.slot ≠ T.fCause.slot := u_apart lp (Or.inl (h (.lays fN_ Bundle.tN "cause" "Ljava/lang/Throwable;") (by simp [FA_]))) hip Y.cause (by rw [hpn, Y.causeName]; decide)
  have pS : fp.slot ≠ T.fStack.slot := u_apart lp (Or.inl (h (.lays fN_ Bundle.tN "stackTrace" Bundle.steD) (by simp [FA_]))) hip Y.stack (by rw [hpn, Y.stackName]; decide)
  have pP : fp.slot ≠ T.fSupp.slot := u_apart lp (Or.inl (h (.lays fN_ Bundle.tN "suppressedExceptions" Bundle.listD) (by simp [FA_]))) hip Y.supp (by rw [hpn, Y.suppName]; decide)
  have hskip : SkipFacts T e.platform s (fun u => u) u0 ((preparedCellV T.toThrowableT (freshCell cX kX) a u0 sen).withEntry W.cur) :=
    ⟨{ ci198 := ci198, i198 := i198, fBack := fB }, ⟨hk198, hg198, ha198, hsB⟩, by
      have := fresh_default (c := cX) tyB
      rw [htB] at this
      simpa [preparedCellV, Cell.setSlot, Cell.withEntry, Array.getElem?_setIfInBounds, bC, bS, bP, bC.symm, bS.symm, bP.symm, defaultValue] using this, fun _ _ => rfl⟩
  obtain ⟨tm, methC, cdC, kC, vm₁, hnC, -, -, -, -, -, -, -, hW₁, st1⟩ := Steps.initCold (tb := p.tables) (e := e) (below := below) (s := s) (U := W) X.here hexec X.warmed hpl hown (t := Bundle.init0 eN_) rfl rfl (by decide)
    (a' (.methodLink fN_ 1 (Bundle.init0 eN_)) (by simp [FA_])) (h (.instanceMethod (Bundle.init0 eN_)) (by simp [FA_, Bundle.chain0Atoms, Bundle.passAtoms])) (bytes := Bundle.five) (maxL := 1) (h (.code (Bundle.init0 eN_) Bundle.five 1 none) (by simp [FA_, Bundle.chain0Atoms, Bundle.passAtoms]))
    (f := g) hg (a := a) (rest := rest) hstack hd6
  cases Option.some.inj (hnC.symm.trans hP1m)
  have X₁ := X.noted hW₁
  obtain ⟨vm₂, X₂, st2⟩ := X₁.ctorPlainOffV hexec (g := { g with stack := rest }) hg hsize T L Z LZ [P1]
    (fun P hP => by rcases List.mem_cons.mp hP with rfl | hP; exact L1; exact hL P hP) ⟨hlink1, hlink⟩ (u0 := u0) (sen := sen) (self := a) (cell := freshCell cX kX) (cellS := cellS)
    hcell (fun _ => by simp) (by simp) rfl rfl hsel0 hselF hcellS hneS hknownS (by rw [hkeep _ (hout' _)]; exact hu0) (by rw [hkeep _ (hout' _)]; exact hsen)
    (Takes.of_laid hk hord tyC (by rw [Y.causeType]; rfl)) (Takes.of_laid hk hord tyS (by rw [Y.stackType]; exact fits_refV_array _ u0)) (Takes.of_laid hk hord tyP (by rw [Y.suppType]; exact fits_refV_object _ sen)) Y.objLocals hskip htr [] hd6
    (by simp only [List.length_cons, List.length_nil]; omega) (by simp only [List.length_cons, List.length_nil]; exact hRlocals)
  refine ⟨(W.setVm vm₁).setVm vm₂, _, _, X₂, fun y hy => ?_, rfl, rfl, rfl, ?_, fun target hwalk => st1 _ (fun acts => ?_)⟩
  · simp only [List.nil_append, List.mem_cons, List.not_mem_nil, or_false] at hy
    rcases hy with rfl | rfl | rfl | rfl <;> rfl
  · subst hip2
    simp [preparedCellV, Cell.setSlot, Array.getElem?_setIfInBounds, pC, pS, pP, pC.symm, pS.symm, pP.symm]
  · rw [doInvoke_state]
    exact st2 _ hwalk
end FC
/-- the script is read -/
def s_sald (G : g_) (nx : Nat) : sem_ := fun L st h _ k => match st with
  | .int i :: .ref a :: r => ∃ j, a = gs G ∧ ix_ i (gn G) = some j ∧ k nx L (.int (gf_ G j) :: r) h
  | _ => False
def s_slen (G : g_) (nx : Nat) : sem_ := fun L st h _ k => match st with
  | .ref a :: r => a = gs G ∧ k nx L (.int (nI (gn G)) :: r) h
  | _ => False
theorem Rep.scr {G : g_} {h : hp_} {U : State} {H : Heap} (r : Rep G h U H) : va_P (gD G) cls_ [(gs G, tr_ G (eI (gn G) (gf_ G)))] H := by
  intro k q hk
  obtain ⟨hl, -⟩ := List.getElem?_eq_some_iff.mp hk
  have hl : k < 1 := hl
  obtain rfl : k = 0 := by omega
  cases hk
  exact r.2.2.2.2.2.2.2.2.2.2.2.2.1.2
section SC
variable {G : g_} {m : mt_} {pc : Nat}
theorem o_sald (hd : decode (mB m) pc = .ok (.iaload, 1)) : SemOK G m pc (s_sald G (pc + 1)) := by
  intro L st h Q k hs hk
  unfold s_sald at hs
  split at hs
  · next i a r =>
    obtain ⟨j, rfl, hj, hs⟩ := hs
    obtain ⟨hin, hc, -⟩ := ix_in hj
    refine Go_.pure0 (fun cx _ rp kk => ?_) (hk _ _ _ _ hs)
    exact va_iald cx.ex cx.cb cx.en.1 rp.scr 0 0 rfl rfl hin hd (by rw [hc]; exact kk)
  · exact hs.elim
theorem o_slen (hd : decode (mB m) pc = .ok (.arraylength, 1)) : SemOK G m pc (s_slen G (pc + 1)) := by
  intro L st h Q k hs hk
  unfold s_slen at hs
  split at hs
  · next a r =>
    obtain ⟨rfl, hs⟩ := hs
    refine Go_.pure0 (fun cx _ rp kk => ?_) (hk _ _ _ _ hs)
    exact va_alen cx.ex cx.cb cx.en.1 rp.scr 0 0 rfl rfl rfl hd kk
  · exact hs.elim
end SC
