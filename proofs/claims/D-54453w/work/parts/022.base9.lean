/-! BASE 9: handlers; a call of a method with handlers; an interface's default method by super -/
set_option maxRecDepth 100000
theorem mW_cons {m : mt_} {x : Nat × Nat × Nat × Nat} {t : List (Nat × Nat × Nat × Nat)} (hH : mH m = x :: t) : mW m = wsW_ (mY m) (mB m) (mL m) (mR m) (mH m) := by unfold mW; rw [hH]
theorem GoX_.caught {G : g_} {m : mt_} {pc a b hp ct : Nat} {tl : List (Nat × Nat × Nat × Nat)} {L : L_} {q : Nat} {h : hp_} {Q : o_ → hp_ → Prop} (hH : mH m = (a, b, hp, ct) :: tl) (h1 : a ≤ pc) (h2 : pc < b) (h0 : ct ≠ 0) (hl : Cond.classLink (mY m).cls ct "MemberShelf$Fault" ∈ lw_all) (hc : cls_at h q = some 9) (k : Go_ G m hp L [.ref q] h Q) : GoX_ G m pc L q h Q := by
  intro hw
  obtain ⟨o, h', a1, a2, a3, a4, a5⟩ := k hw
  refine ⟨o, h', a1, a2, a3, a4, fun p e R s mi args below meth c H locs cells slots ls st cx lr rp hl9 he hc1 hs1 => ?_⟩
  obtain ⟨ce, e1, e2, e3⟩ := flt_at cx.en rp hc
  have hh := cx.hh
  rw [hH] at hh
  obtain ⟨x, suf, ex, ex1, -⟩ := List.map_eq_cons_iff.mp hh
  have x1 : x.startPc = a := congrArg Prod.fst ex1
  have x2 : x.endPc = b := congrArg (fun z => z.2.1) ex1
  have x3 : x.handlerPc = hp := congrArg (fun z => z.2.2.1) ex1
  have x4 : x.catchType = ct := congrArg (fun z => z.2.2.2) ex1
  refine vy_catch cx.ow [] x suf ex (fun z hz => nomatch hz) ?_ (by rw [x4]; exact h0) (by rw [x4]; exact cx.ws _ hl) (cx.en.use q863 rfl) e1 e2 e3 ?_
  · unfold covers
    rw [x1, x2]
    simp [h1, h2]
  · rw [x3]
    exact a5 p e R s mi args below meth c H locs cells slots ls cx lr rp hl9 he hc1 hs1
section H9
variable {G : g_} {m : mt_} {pc : Nat}
theorem o_callH {len n ty a b hp ct : Nat} {rc : Option Nat} {m' : mt_} {tl : List (Nat × Nat × Nat × Nat)} (hR : RunOK G m pc len n m' true rc) (hH : mH m = (a, b, hp, ct) :: tl) (h1 : a ≤ pc) (h2 : pc < b) (h0 : ct ≠ 0) (hl : Cond.classLink (mY m).cls ct "MemberShelf$Fault" ∈ lw_all) : SemOK G m pc (s_callH G n rc m' ty (pc + len) hp) := by
  intro L st h Q k hs hk
  unfold s_callH at hs
  split at hs
  · next av r ht =>
    split at hs
    · next h4 =>
      obtain ⟨rfl, hn⟩ := takeA_st ht
      obtain ⟨k1, k2⟩ := rck_of hs
      exact callX_go hR hn (sum8 h4) k1 (fun vs h1 hq => hk _ _ _ _ hq) (fun q hh1 hq => GoX_.caught hH h1 h2 h0 hl hq.1 (hk _ _ _ _ hq.2)) k2
    · exact hs.elim
  · exact hs.elim
theorem Do_.bodyW {av : List Value} {h : hp_} {Q : o_ → hp_ → Prop} {L : L_} {x : Nat × Nat × Nat × Nat} {t : List (Nat × Nat × Nat × Nat)} (hp : plainFor (mY m) = true) (hH : mH m = x :: t) (hlen : (lg_sl av).length ≤ mL m)
    (hL : ∀ (i : Nat) (v : Value), L[i]? = some (some v) → (i, v) ∈ lv_args 0 av) (hN : mN m = true → ∀ v ∈ av, v.category = 1) (hLa : ∀ (i : Nat) (v : Value), L[i]? = some (some v) → v ∈ av) (k : Go_ G m 0 L [] h Q) : Do_ G m av h Q := by
  intro hw
  obtain ⟨o, h', a1, a2, a3, a4, a5⟩ := k hw
  refine ⟨o, h', a1, a2, a3, a4, ?_⟩
  unfold Ct_
  rw [mW_cons hH]
  refine vy_ofWH (cc := mB m) (maxL := mL m) (ret := mR m) (hh := mH m) hp rfl ?_
  intro p e s mi args below meth c s₁ B hml hP
  obtain ⟨rfl, hen, hrep⟩ := hP
  have hts := atoms_spec (ws := wsW_ (mY m) (mB m) (mL m) (mR m) (mH m)) B.pre
  have htab := vy_table (x := mY m) B (hts _ List.mem_cons_self)
  have cx : Cx G m p (rmO m h h') s mi av.toArray meth c := ⟨B.exec, B.bytes, B.returns, B.notSynchronized, hml, findClass_of_methodNamed B.named, (name_of_methodNamed B.named B.method).1, fun w h => hts w (List.mem_cons_of_mem _ h), hen, rfl, rfl, by
    rw [htab]
    unfold tableOf
    rw [List.map_map]
    exact List.map_id' _⟩
  have hlv := lv_entry av hlen
  rw [lg_entry_eq]
  have lr : LR m L ((lg_sl av ++ List.replicate (mL m - (lg_sl av).length) Slot.unset).toArray) := ⟨hlv.1, hlv.2.1, fun i v hi => hlv.2.2 (i, v) (hL i v hi), fun hn i v hi => hN hn v (hLa i v hi)⟩
  have := a5 p e (rmO m h h') s mi av.toArray below meth c s.heap [] 0 0 _ cx lr hrep (fun q hq => by cases hq) (by rw [Nat.add_zero]; exact hrep.1.symm) (by rw [Nat.zero_add]; exact Nat.le_refl _) (by rw [Nat.zero_add]; exact Nat.le_refl _)
  rw [Nat.zero_add, Nat.zero_add] at this
  exact this
theorem Do_.enterW {av : List Value} {h : hp_} {Q : o_ → hp_ → Prop} {L : L_} {x : Nat × Nat × Nat × Nat} {t : List (Nat × Nat × Nat × Nat)} (hp : plainFor (mY m) = true) (hH : mH m = x :: t) (hlen : av.length ≤ mL m) (hc : catsk av) (hL : entL av (mL m) = L) (k : Go_ G m 0 L [] h Q) : Do_ G m av h Q := by
  subst hL
  have hc1 := catsk_all hc
  refine Do_.bodyW hp hH (by rw [sl_len av hc1]; exact hlen) (fun i v hi => ?_) (fun _ => hc1) (fun i v hi => List.mem_of_getElem? (entL_get hi)) k
  have := args_mem av 0 i v hc1 (entL_get hi)
  rwa [Nat.zero_add] at this
theorem Ct_.metW {m' : mt_} {av : List Value} {h h1 : hp_} {o : o_} {x : Nat × Nat × Nat × Nat} {tl : List (Nat × Nat × Nat × Nat)} (hH : mH m' = x :: tl) (hC : Ct_ G m' av h o h1) (ho : ∀ q, o ≠ .inr q) : Met (gl G) (mY m') (wsW_ (mY m') (mB m') (mL m') (mR m') (mH m')) (rmO m' h h1) (va_Pc av (fun U => En G U ∧ Rep G h U U.heap)) (QcO G o h1) (hsz h1 - hsz h) (hsl h1 - hsl h) (gA G) := by
  unfold Ct_ at hC
  rw [mW_cons hH] at hC
  refine MetFree.mono hC (fun _ _ h => h) (fun _ _ _ _ _ h => h) (fun a s oc t _ hq => ?_)
  rcases hq with hq | ⟨q, -, E, ce, Ls, hx, -⟩
  · exact hq
  · cases o with
    | inl v => exact hx.elim
    | inr q0 => exact absurd rfl (ho q0)
theorem run_VW {m' : mt_} {i n ci : Nat} {q : vw_C} {x : Nat × Nat × Nat × Nat} {tl : List (Nat × Nat × Nat × Nat)} (hd : decode (mB m) pc = .ok (.invokevirtual i, 3)) (hq : cls_[ci]? = some q) (h1 : Cond.methodLink (mY m).cls i (mY m') ∈ lw_all) (h2 : Cond.instanceMethod (mY m') ∈ lw_all) (h3 : Cond.selects q.1 (mY m') (mY m') ∈ lw_all) (h4 : Cond.initialized q.1 ∈ lw_all) (h5 : Cond.codeWith (mY m') (mB m') (mL m') (mR m') (mH m') ∈ lw_all) (hc : (mY m').cls = q.1)
    (hd2 : (mY m').cls ≠ "java/lang/invoke/MethodHandle" ∧ (mY m').cls ≠ "java/lang/invoke/VarHandle" ∧ (parseMethodDescriptor (mY m').desc).map (fun d => d.parameters.length) = some n) (hF : mF m' + 1 ≤ mF m) (hO : 19 + mL m' + mO m' ≤ mO m) (hH : mH m' = x :: tl) : RunOK G m pc 3 (n + 1) m' false (some ci) := by
  intro av r L h p e R s mi args below meth c H locs cells slots ls hn h8 hrc cx lr rp o hh1 ho hC hroom
  obtain ⟨b, as, rfl, hcl⟩ := hrc
  rw [stk]
  exact Rn_.of3 (vy_runVW (As := as) cx.fix (hC.metW hH (ho rfl)) (vy_cwVW n cx.ws (lw_VW h1 h2 h3 h4 h5) rfl rfl rfl ⟨hc, hd2⟩ (roomO (by rw [cx.fr]; exact hF) (by rw [cx.lo]; exact hO) h hh1)) (preV cx.en rp hcl hq) rfl (by simpa using hn) lr.1 rfl (lv_room h8) hd hroom)
end H9
section SD9
variable {Q : Unit → Pre} {E : CtlPost} {e : Env} {d : Bool} {acts : List Action} {s s₀ : State} {f : JFrame}
theorem wp_specF {index ci a : Nat} {nt : Nat} {m : MethodId} {named : ClassId} {ck nk mk : Class} {cf : ClassFile} {r : Method} {args rest : List Value} {cell : Cell} {kcell : Class}
    (hs : s.topJava?.isSome) (hr : s.vm.methodReady f.method.cls index m) (hrm : s.vm.method? m = some r)
    (hck : s.vm.classes[f.method.cls]? = some ck) (hcf : ck.cf = some cf) (hc : cf.constantPool[index]? = some (.interfaceMethodref ci nt))
    (hnamed : s.vm.classReady f.method.cls ci named) (hnk : s.vm.classes[named]? = some nk)
    (hinit : (r.name == "<init>" && m.cls != named) = false) (hstatic : r.isStatic = false)
    (hfound : lookupSpecial s.vm (if r.name != "<init>" && !nk.isInterface && (named != f.method.cls && s.vm.isSubclass f.method.cls named) then ck.super.getD named else named)
      r.name r.desc = .method m)
    (hiface : ck.isInterface = false) (hmk : s.vm.classes[m.cls]? = some mk) (habs : r.isAbstract = false)
    (hlen : args.length = r.sig.parameters.length) (hstack : f.stack = args.reverse ++ .ref a :: rest)
    (hcell : s.heap[a]? = some cell) (hobj : ∀ c, cell.vm ≠ .statics c) (hkcell : s.vm.classes[cell.cls]? = some kcell) :
    wp (Jvm.Op.invokespecial.sem index) Q E e d acts (s.setTop f) ↔
      E (.invoke m (.ref a :: args).toArray) acts (s.setTop { f with stack := rest }) := by
  simp only [Jvm.Op.invokespecial.sem, wp_bind', W.resolveMethodAt_ready (State.method?_setTop f hs) hr]
  simp only [W.theMethod, State.vm_setTop, hrm, Option.some.injEq, exists_eq_left', Jvm.refClassAt, Jvm.constantAt, wp_bind', W.currentClass, W.theClass,
    State.method?_setTop f hs, hck, hcf, Option.bind_some, hc, wp_pure', W.resolveClassAt_ready (State.method?_setTop f hs) hnamed]
  simp only [W.ite, hinit, hstatic, Bool.false_eq_true, if_false, wp_bind', W.theClass, State.vm_setTop, hck, hnk, Option.some.injEq, exists_eq_left', W.look, hfound,
    bne_self_eq_false, wp_pure', Jvm.popArgs, ← hlen, popN_top hs hstack]
  simp [hiface] at hfound
  simp [hs, hcell, hobj, hkcell, hck, hiface, hrm, habs, hmk, hfound, popN_top hs hstack]
end SD9
section SD9
variable {p : Program} {l : Launch} {e : Env} {R : Room} {s : State} {mi : MethodId} {args : Array Value} {below : List Frame} {meth : Method} {c : Code} {T : State} {locs : List Loc} {cells slots : Nat}
/-- an interface's own default method, by super -/
theorem specF_ (X : Stand p l e R s mi args below meth c T locs cells slots) (hexec : p.tables.exec = Jvm.exec) {own : String} {index : Nat} {y : MethodName} {kO : Class} {r0 : MethodId} {r : Method} {kI : Class}
    (hown : s.vm.findClass own = some mi.cls) (hlink : (Cond.methodLink own index y).before args s = true) (hn : s.methodNamed? y = some r0) (hrm : s.vm.method? r0 = some r) (hstatic : r.isStatic = false) (habs : r.isAbstract = false) (hno : y.name ≠ "<init>")
    (hkO : s.vm.classes[mi.cls]? = some kO) (hniO : kO.isInterface = false) (hkI : s.vm.classes[r0.cls]? = some kI) (hiI : kI.isInterface = true) (hy : y.cls ≠ "java/lang/invoke/MethodHandle" ∧ y.cls ≠ "java/lang/invoke/VarHandle")
    {a : Addr} {cell : Cell} {kcell : Class} (hcell : T.heap[a]? = some cell) (hobj : ∀ c, cell.vm ≠ .statics c) (hkcell : s.vm.classes[cell.cls]? = some kcell)
    {g : JFrame} (hg : g.method = mi) {argsL rest : List Value} (hlen : argsL.length = r.sig.parameters.length) (hstack : g.stack = argsL.reverse ++ .ref a :: rest)
    (hdg : decode c.code g.pc = .ok (.invokespecial index, 3)) :
    ∃ vm', Stand p l e R s mi args below meth c (T.setVm vm') locs cells slots ∧
      ∀ target, Steps p.tables e below (doInvoke e ((T.setVm vm').setTop { g with stack := rest }) [] r0 (.ref a :: argsL).toArray).1 target → Steps p.tables e below (T.setTop g) target := by
  have hpl : e.platform.magicAccessors = ({} : Platform).magicAccessors := by rw [X.admits.platform]
  obtain ⟨ci, hl, hright⟩ := Cond.methodLink_spec hown hn hlink e.platform hpl
  obtain ⟨dk₀, cfile, nt, nm, ds, via, ck₀, mth₀, hd₀, hcf, hcp, -, -, -, hc₀, hvia, -⟩ := hl.here
  cases hkO.symm.trans hd₀
  cases hkI.symm.trans hc₀
  rw [← hvia, hiI] at hcp
  have hcp : cfile.constantPool[index]? = some (.interfaceMethodref ci nt) := hcp
  obtain ⟨hrn, hrd⟩ := name_of_methodNamed hn hrm
  have hx : ∀ k, s.vm.classes[r0.cls]? = some k → k.name ≠ "java/lang/invoke/MethodHandle" ∧ k.name ≠ "java/lang/invoke/VarHandle" := by
    intro k hk
    obtain ⟨k9, h9, hname⟩ := className_of_methodNamed hn
    cases hk.symm.trans h9
    rw [hname]; exact hy
  subst hg
  have hE := State.methodEntry (e := e) X.warmed hl hright hx
  obtain ⟨dk', hdk', hde'⟩ := hE.warmed.alike.2.2 _ _ hkO
  obtain ⟨kI', hkI', hIe'⟩ := hE.warmed.alike.2.2 _ _ hkI
  obtain ⟨kc', hkc', -⟩ := hE.warmed.alike.2.2 _ _ hkcell
  have hf0 : lookupSpecial s.vm r0.cls r.name r.desc = .method r0 := by
    have := lookupSpecial_of_named hn hrm hstatic
    rw [hrn, hrd]; exact this
  have hfound' : lookupSpecial (T.setVm (T.vm.called g.method.cls ci index r0)).vm (if r.name != "<init>" && !kI'.isInterface && (r0.cls != g.method.cls && (T.setVm (T.vm.called g.method.cls ci index r0)).vm.isSubclass g.method.cls r0.cls) then dk'.super.getD r0.cls else r0.cls) r.name r.desc = .method r0 := by
    have hii : kI'.isInterface = true := by rw [hIe']; exact hiI
    rw [hii]
    simp only [Bool.not_true, Bool.and_false, Bool.false_and, Bool.false_eq_true, if_false]
    rw [show lookupSpecial (T.setVm (T.vm.called g.method.cls ci index r0)).vm r0.cls r.name r.desc = _ from hE.warmed.alike.lookupSpecial _ _ _]
    exact hf0
  refine ⟨_, X.noted hE.warmed, fun target hrest => ?_⟩
  have h := X.here
  jvm_step h [hexec, hdg, Jvm.Op.invokespecial.wp_cold (e := e) (s := T) (s₀ := s) (f := g) h.top hE hkO hcf (Or.inr hcp) hrm,
    wp_specF (e := e) (s := T.setVm (T.vm.called g.method.cls ci index r0)) (index := index) (ci := ci) (nt := nt) (a := a) (m := r0) (named := r0.cls)
      (ck := dk') (nk := kI') (mk := kI') (cf := cfile) (r := r) (args := argsL) (rest := rest) (cell := cell) (kcell := kc') (f := g)
      h.top hE.ready (show (T.setVm (T.vm.called g.method.cls ci index r0)).vm.method? r0 = some r by rw [show (T.setVm (T.vm.called g.method.cls ci index r0)).vm.method? r0 = _ from hE.warmed.alike.method? r0]; exact hrm) hdk' (by rw [hde']; exact hcf) hcp hE.classReady hkI' (by rw [hrn]; simp [hno]) hstatic hfound' (by rw [hde']; exact hniO) hkI' habs hlen hstack hcell hobj hkc']
  intro acts1
  rw [doInvoke_state]
  exact hrest
end SD9
theorem run_SD {G : g_} {m m' : mt_} {pc n i ci : Nat} {q : vw_C} {y0 : MethodName} (hd : decode (mB m) pc = .ok (.invokespecial i, 3)) (hq : cls_[ci]? = some q) (h1 : Cond.methodLink (mY m).cls i (mY m') ∈ lw_all) (hf2 : Cond.interfaceMethod (mY m').cls (mY m').cls (mY m').name (mY m').desc ∈ lw_tbl) (hok : okT_ (Cond.interfaceMethod (mY m').cls (mY m').cls (mY m').name (mY m').desc) = true)
    (hso : Cond.selects (mY m).cls y0 y0 ∈ lw_all) (hy0 : y0.cls = (mY m).cls) (h2 : Cond.instanceMethod (mY m') ∈ lw_all) (h4 : Cond.initialized (mY m').cls ∈ lw_all) (h5 : Cond.code (mY m') (mB m') (mL m') (mR m') ∈ lw_all) (hno : (mY m').name ≠ "<init>") (hk : cokD m m' n) : RunOK G m pc 3 (n + 1) m' false (some ci) := by
  intro av r L h p e R s mi args below meth c H locs cells slots ls hn h8 hrc cx lr rp o hh1 ho hC hroom
  obtain ⟨b, as, rfl, hcl⟩ := hrc
  obtain ⟨hd2, hF, hO, hH⟩ := hk
  rw [stk]
  have hM := hC.met hH (ho rfl)
  refine Rn_.of3 ?_
  have hK := backOf (len := 3) (e := e) (below := below) hM cx hF hO h5 h4
  obtain ⟨hfc, kB, hkB, -⟩ := (cx.en.1.1 ci q hq).2
  obtain ⟨mk, methM, hnamed, hmethM, hstM, habM⟩ := Cond.instanceMethod_spec (cx.ws _ h2)
  obtain ⟨methM', cM, hmethM', -, -, -, -, -, -, hsigM⟩ := Cond.code_spec hnamed (cx.ws _ h5)
  cases hmethM.symm.trans hmethM'
  obtain ⟨c2, r2, m2, q1, q2, q3, q4, kP, hkP, hkPi⟩ := Cond.selects_spec (cx.ws _ hso)
  have hm2 : m2.cls = mi.cls := by
    have := findClass_of_methodNamed q3
    rw [hy0, cx.ow] at this
    exact (Option.some.inj this).symm
  rw [hm2] at hkP
  obtain ⟨cL, kL, r1, hcL, hkL, hiL, hfoundL, hn1⟩ := Cond.interfaceMethod_spec (cx.en.use (A := args) hf2 hok)
  have hmkc : cL = mk.cls := Option.some.inj (hcL.symm.trans (findClass_of_methodNamed hnamed))
  rw [hmkc] at hkL
  intro T hT X
  obtain ⟨cellB, c1, c2', c3⟩ := recv_at cx.en rp hcl hq
  rw [← Option.some.inj (c3.symm.trans hfc)] at hkB
  obtain ⟨vm₁, X₁, hstep₁⟩ := specF_ X cx.ex cx.ow (cx.ws _ h1) hnamed hmethM hstM habM hno hkP hkPi hkL hiL ⟨hd2.1, hd2.2.1⟩ (a := b) (cell := cellB) (by rw [hT]; exact c1) (fun z h => by rw [h] at c2'; cases c2') hkB (g := F0 mi pc ls (as.reverse ++ .ref b :: r)) rfl (argsL := as) (rest := r) (by
      have hz : as.length = n := by simpa using hn
      rw [hz]
      have hq9 := hd2.2.2
      rw [hsigM] at hq9
      exact (Option.some.inj hq9).symm) rfl (by rw [cx.cb]; exact hd)
  obtain ⟨v, ⟨U', l2, cc2, s2⟩, X', ⟨g', mk', t, Ls, e1, e2, hqq, g1, hL, g2, g3⟩, st⟩ := hK mi meth c ⟨T.setVm vm₁, locs, cells, slots⟩ (F0 mi pc ls r) (.invokespecial i) mk (Value.ref b :: as).toArray X₁ rfl (by rw [cx.ml]; exact lr.1) (by rw [cx.cb]; exact hd) (lv_room h8) (X₁.named hnamed) ⟨hroom.1, hroom.2, pre_U cx.en rp _ (T.setVm vm₁) hT X₁.warmed⟩
  dsimp only [Pt.U, Pt.locs, Pt.cells, Pt.slots] at X' e1 e2 g1 g2 g3 st
  subst g1; subst g2; subst g3
  exact ⟨v, (T.setVm vm₁).calling g' mk' (Value.ref b :: as).toArray, t, U', Ls, hT, X', hL, e1, e2, hqq, fun target ht => hstep₁ _ (by rw [doInvoke_state]; exact st.trans ht)⟩
