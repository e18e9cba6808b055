/-! BASE 2: what holds of the tables all through; a method's contract over the abstract heap; the judgement inside a method -/
set_option maxRecDepth 100000
def okT_ (w : Cond) : Bool := w.faceAtom || (match w with | .fieldLinkNest .. => true | .methodLinkNest .. => true | _ => false)
theorem okT_tab {w : Cond} (h : okT_ w = true) : w.onTables = true := by
  cases w <;> first | rfl | (simp [okT_, Cond.faceAtom] at h)
theorem okT_warm {s U : State} (hW : s.WarmedH U.vm) {w : Cond} (hk : okT_ w = true) (h : w.before #[] s = true) : w.before #[] U = true := by
  refine va_tabs (okT_tab hk) (rfl : (s.setVm U.vm).vm = U.vm) (A := #[]) ?_
  unfold okT_ at hk
  rw [Bool.or_eq_true] at hk
  rcases hk with hk | hk
  · exact Cond.faceAtom_setVm hW.alike w hk h
  · cases w with
    | fieldLinkNest a b c d e f => exact Cond.fieldLinkNest_warmed (args := #[]) hW h
    | methodLinkNest a b c d => exact Cond.methodLinkNest_warmed (args := #[]) hW h
    | _ => simp at hk
abbrev itI_ : MethodName := ⟨"java/lang/Iterable", "iterator", "()Ljava/util/Iterator;"⟩
abbrev itW_ : MethodName := ⟨"MemberShelf$Walked", "iterator", "()Ljava/util/Iterator;"⟩
abbrev wcount_ : MethodName := ⟨"MemberShelf$Walked", "count", "()I"⟩
abbrev wfirst_ : MethodName := ⟨"MemberShelf$Walked", "first", "()I"⟩
abbrev wlast_ : MethodName := ⟨"MemberShelf$Walked", "last", "()I"⟩
/-- what the premises beside the tables say of linking -/
def Nar (s : State) : Prop :=
  (Cond.landsInDefault "MemberShelf$Directory$Block" wcount_ wcount_).before #[] s = true ∧ (Cond.landsInDefault "MemberShelf$Directory$Block" wfirst_ wfirst_).before #[] s = true ∧ (Cond.landsInDefault "MemberShelf$Directory$Block" wlast_ wlast_).before #[] s = true ∧
  (Cond.interfaceMethod "MemberShelf$Walked" "java/lang/Iterable" "iterator" "()Ljava/util/Iterator;").before #[] s = true ∧ (Cond.methodLink "MemberShelf$Walked" 3 itW_).before #[] s = true
theorem lands_any {A A' : Array Value} {s : State} {C : String} {x y : MethodName} : (Cond.landsInDefault C x y).before A s = (Cond.landsInDefault C x y).before A' s := by
  simp only [Cond.before, Cond.holds, Cond.value]
theorem lands_warm {s U : State} (hW : s.WarmedH U.vm) {C : String} {x y : MethodName} (h : (Cond.landsInDefault C x y).before #[] s = true) : (Cond.landsInDefault C x y).before #[] U = true := by
  have h1 : (Cond.landsInDefault C x y).before #[] (s.setVm U.vm) = true := by
    rw [Cond.landsInDefault_setVm (args := #[]) hW.alike (State.methodFound?_setVm hW.alike _ _ _)]
    exact h
  have e : (Cond.landsInDefault C x y).before #[] U = (Cond.landsInDefault C x y).before #[] (s.setVm U.vm) := by
    simp only [Cond.before, Cond.holds, Cond.value, State.methodFound?, State.methodNamed?, State.vm_setVm]
  rw [e]
  exact h1
theorem face_warm {s U : State} (hW : s.WarmedH U.vm) {a b n d : String} (h : (Cond.interfaceMethod a b n d).before #[] s = true) : (Cond.interfaceMethod a b n d).before #[] U = true := by
  refine va_tabs rfl (rfl : (s.setVm U.vm).vm = U.vm) (A := #[]) ?_
  have hf : (s.setVm U.vm).methodFound? a n d = s.methodFound? a n d := State.methodFound?_setVm hW.alike _ _ _
  have e : (Cond.interfaceMethod a b n d).before #[] (s.setVm U.vm) = (Cond.interfaceMethod a b n d).before #[] s := by
    simp only [Cond.before, Cond.holds, Cond.value, State.vm_setVm, hW.alike.findClass, hf, State.methodNamed?_setVm hW.alike, arm_isInterface_setVm hW.alike]
  rw [e]
  exact h
theorem Nar.warm {s U : State} (hW : s.WarmedH U.vm) (h : Nar s) : Nar U :=
  ⟨lands_warm hW h.1, lands_warm hW h.2.1, lands_warm hW h.2.2.1, face_warm hW h.2.2.2.1, word_at hW (Or.inl rfl) h.2.2.2.2⟩
/-- the tables, and what is known of them beside the words of lw_all -/
def En (G : g_) (s : State) : Prop :=
  va_K (gD G) cls_ (tys_ G) s ∧ (∀ w ∈ lw_tbl, okT_ w = true → w.before #[] s = true) ∧ va_AO "java/lang/Object" s ∧ va_Mi "[Ljava/lang/Object;" (gM G) s ∧ Nar s
theorem En.warm {G : g_} {s U : State} (hW : s.WarmedH U.vm) (h : En G s) : En G U :=
  ⟨h.1.moved hW.alike, fun w hw hk => okT_warm hW hk (h.2.1 w hw hk), h.2.2.1.moved hW.alike, h.2.2.2.1.moved hW.alike, h.2.2.2.2.warm hW⟩
theorem En.use {G : g_} {s : State} (h : En G s) {w : Cond} (hw : w ∈ lw_tbl) (hk : okT_ w = true) {A : Array Value} : w.before A s = true := va_tabs (okT_tab hk) rfl (h.2.1 w hw hk)
/-- a method: its name, its code, its locals, its answer, the frames and local words that it may take, no long among its locals, its handlers -/
abbrev mt_ : Type := MethodName × ByteArray × Nat × Option FieldType × Nat × Nat × Bool × List (Nat × Nat × Nat × Nat)
abbrev mY (m : mt_) : MethodName := m.1
abbrev mB (m : mt_) : ByteArray := m.2.1
abbrev mL (m : mt_) : Nat := m.2.2.1
abbrev mR (m : mt_) : Option FieldType := m.2.2.2.1
abbrev mF (m : mt_) : Nat := m.2.2.2.2.1
abbrev mO (m : mt_) : Nat := m.2.2.2.2.2.1
abbrev mN (m : mt_) : Bool := m.2.2.2.2.2.2.1
abbrev mH (m : mt_) : List (Nat × Nat × Nat × Nat) := m.2.2.2.2.2.2.2
/-- what comes of a call: an answer, or a thrown object -/
abbrev o_ : Type := Option Value ⊕ Nat
abbrev L_ : Type := List (Option Value)
def mW (m : mt_) : List Cond := match mH m with
  | [] => ws_ (mY m) (mB m) (mL m) (mR m)
  | hh => wsW_ (mY m) (mB m) (mL m) (mR m) hh
def QcO (G : g_) (o : o_) (h' : hp_) : Array Value → State → Outcome → State → Prop := fun _ _ oc t => match o with
  | .inl r => oc = .returned r ∧ Rep G h' t t.heap
  | .inr _ => False
def XcO (G : g_) (o : o_) (h' : hp_) : Addr → String → State → State → Prop := fun q E _ t => match o with
  | .inl _ => False
  | .inr q0 => q = q0 ∧ E = "MemberShelf$Fault" ∧ Rep G h' t t.heap
def rmO (m : mt_) (h h' : hp_) : Room := { frames := mF m, cells := hsz h' - hsz h, slots := hsl h' - hsl h, locals := mO m }
def Ct_ (G : g_) (m : mt_) (av : List Value) (h : hp_) (o : o_) (h' : hp_) : Prop :=
  vy_Met (gl G) (mY m) (mW m) (rmO m h h') (va_Pc av (fun U => En G U ∧ Rep G h U U.heap)) (QcO G o h') (XcO G o h') (hsz h' - hsz h) (hsl h' - hsl h) (gA G)
/-- the contract: called with av in the heap h, the method ends, and Q holds of how and of the heap then -/
def Do_ (G : g_) (m : mt_) (av : List Value) (h : hp_) (Q : o_ → hp_ → Prop) : Prop :=
  hwf h → ∃ (o : o_) (h' : hp_), hwf h' ∧ hsz h ≤ hsz h' ∧ hsl h ≤ hsl h' ∧ Q o h' ∧ Ct_ G m av h o h'
theorem Do_.mono {G : g_} {m : mt_} {av : List Value} {h : hp_} {Q Q' : o_ → hp_ → Prop} (k : Do_ G m av h Q) (hQ : ∀ o h', hwf h' → hsz h ≤ hsz h' → hsl h ≤ hsl h' → Q o h' → Q' o h') : Do_ G m av h Q' := by
  intro hw
  obtain ⟨o, h', a1, a2, a3, a4, a5⟩ := k hw
  exact ⟨o, h', a1, a2, a3, hQ o h' a1 a2 a3 a4, a5⟩
def Cx (G : g_) (m : mt_) (p : Program) (R : Room) (s : State) (mi : MethodId) (args : Array Value) (meth : Method) (c : Code) : Prop :=
  p.tables.exec = Jvm.exec ∧ c.code = mB m ∧ meth.sig.returnType = mR m ∧ meth.locks = false ∧ c.maxLocals = mL m ∧ s.vm.findClass (mY m).cls = some mi.cls ∧ meth.name = (mY m).name ∧ (∀ w ∈ lw_all, w.before args s = true) ∧ En G s ∧ R.frames = mF m ∧ R.locals = mO m ∧
  c.exceptionTable.toList.map (fun h => (h.startPc, h.endPc, h.handlerPc, h.catchType)) = mH m
section CX
variable {G : g_} {m : mt_} {p : Program} {R : Room} {s : State} {mi : MethodId} {args : Array Value} {meth : Method} {c : Code}
theorem Cx.ex (x : Cx G m p R s mi args meth c) : p.tables.exec = Jvm.exec := x.1
theorem Cx.cb (x : Cx G m p R s mi args meth c) : c.code = mB m := x.2.1
theorem Cx.rt (x : Cx G m p R s mi args meth c) : meth.sig.returnType = mR m := x.2.2.1
theorem Cx.lk (x : Cx G m p R s mi args meth c) : meth.locks = false := x.2.2.2.1
theorem Cx.ml (x : Cx G m p R s mi args meth c) : c.maxLocals = mL m := x.2.2.2.2.1
theorem Cx.ow (x : Cx G m p R s mi args meth c) : s.vm.findClass (mY m).cls = some mi.cls := x.2.2.2.2.2.1
theorem Cx.nm (x : Cx G m p R s mi args meth c) : meth.name = (mY m).name := x.2.2.2.2.2.2.1
theorem Cx.ws (x : Cx G m p R s mi args meth c) : ∀ w ∈ lw_all, w.before args s = true := x.2.2.2.2.2.2.2.1
theorem Cx.en (x : Cx G m p R s mi args meth c) : En G s := x.2.2.2.2.2.2.2.2.1
theorem Cx.fr (x : Cx G m p R s mi args meth c) : R.frames = mF m := x.2.2.2.2.2.2.2.2.2.1
theorem Cx.lo (x : Cx G m p R s mi args meth c) : R.locals = mO m := x.2.2.2.2.2.2.2.2.2.2.1
theorem Cx.hh (x : Cx G m p R s mi args meth c) : c.exceptionTable.toList.map (fun h => (h.startPc, h.endPc, h.handlerPc, h.catchType)) = mH m := x.2.2.2.2.2.2.2.2.2.2.2
theorem Cx.fix (x : Cx G m p R s mi args meth c) : CallFix p mi c (mB m) (mL m) s args lw_all (mY m).cls := ⟨x.ex, x.cb, x.ml, x.ow, x.ws⟩
end CX
/-- the locals: what is known of them -/
def LR (m : mt_) (L : L_) (ls : Array Slot) : Prop := ls.size = mL m ∧ lv_wf ls ∧ (∀ (i : Nat) (v : Value), L[i]? = some (some v) → ls[i]? = some (.val v)) ∧ (mN m = true → ∀ (i : Nat) (v : Value), L[i]? = some (some v) → v.category = 1)
def asc (L : L_) : List (Nat × Value) := (List.range L.length).filterMap fun i => match L[i]? with
  | some (some v) => some (i, v)
  | _ => none
theorem mem_asc {L : L_} {i : Nat} {v : Value} : (i, v) ∈ asc L ↔ L[i]? = some (some v) := by
  unfold asc
  rw [List.mem_filterMap]
  constructor
  · rintro ⟨j, -, h⟩
    split at h
    · next w hw =>
      cases h
      exact hw
    · cases h
  · intro h
    refine ⟨i, List.mem_range.mpr (List.getElem?_eq_some_iff.mp h).1, ?_⟩
    rw [h]
theorem LR.has {m : mt_} {L : L_} {ls : Array Slot} (h : LR m L ls) : lv_has ls (mL m) (asc L) := ⟨h.1, h.2.1, fun q hq => h.2.2.1 q.1 q.2 (mem_asc.mp hq)⟩
theorem LR.get {m : mt_} {L : L_} {ls : Array Slot} (h : LR m L ls) {i : Nat} {v : Value} (hi : L[i]? = some (some v)) : ls[i]? = some (.val v) := h.2.2.1 i v hi
theorem LR.store {m : mt_} {L : L_} {ls ls' : Array Slot} {i : Nat} {v : Value} (h : LR m L ls) (hN : mN m = true) (hc : v.category = 1) (h2 : lv_has ls' (mL m) ((i, v) :: (asc L).filter (fun q => !(q.1 == i) && !(q.1 + 1 == i && q.2.category == 2)))) : LR m (L.set i (some v)) ls' := by
  have key : ∀ (j : Nat) (w : Value), (L.set i (some v))[j]? = some (some w) → (j = i ∧ w = v) ∨ (j ≠ i ∧ L[j]? = some (some w)) := by
    intro j w hj
    by_cases hji : j = i
    · subst hji
      have hl : j < (L.set j (some v)).length := (List.getElem?_eq_some_iff.mp hj).1
      rw [List.length_set] at hl
      rw [List.getElem?_set_self hl] at hj
      exact Or.inl ⟨rfl, (Option.some.inj (Option.some.inj hj)).symm⟩
    · rw [List.getElem?_set_ne (Ne.symm hji)] at hj
      exact Or.inr ⟨hji, hj⟩
  refine ⟨h2.1, h2.2.1, fun j w hj => ?_, fun _ j w hj => ?_⟩
  · rcases key j w hj with ⟨rfl, rfl⟩ | ⟨hne, hj⟩
    · exact h2.2.2 (j, w) List.mem_cons_self
    · refine h2.2.2 (j, w) (List.mem_cons_of_mem _ (List.mem_filter.mpr ⟨mem_asc.mpr hj, ?_⟩))
      have h1 := h.2.2.2 hN j w hj
      simp [hne, h1]
  · rcases key j w hj with ⟨rfl, rfl⟩ | ⟨hne, hj⟩
    · exact hc
    · exact h.2.2.2 hN j w hj
def msk : List Bool → L_ → L_
  | b :: bs, x :: xs => (match b with | true => x | false => none) :: msk bs xs
  | _, _ => []
theorem msk_get : ∀ (bs : List Bool) (L : L_) (i : Nat) (v : Value), (msk bs L)[i]? = some (some v) → L[i]? = some (some v)
  | [], L, i, v, h => by simp [msk] at h
  | _ :: _, [], i, v, h => by simp [msk] at h
  | b :: bs, x :: xs, 0, v, h => by
    cases b
    · simp [msk] at h
    · simpa [msk] using h
  | b :: bs, x :: xs, i + 1, v, h => by
    have h : (msk bs xs)[i]? = some (some v) := by simpa [msk] using h
    simpa using msk_get bs xs i v h
theorem LR.weak {m : mt_} {L L' : L_} {ls : Array Slot} (h : LR m L ls) (hL : ∀ (i : Nat) (v : Value), L'[i]? = some (some v) → L[i]? = some (some v)) : LR m L' ls :=
  ⟨h.1, h.2.1, fun i v hi => h.2.2.1 i v (hL i v hi), fun hN i v hi => h.2.2.2 hN i v (hL i v hi)⟩
/-- the machine, from this place of the method on, comes to the outcome o with the heap h' -/
def Mc_ (G : g_) (m : mt_) (pc : Nat) (L : L_) (st : List Value) (h : hp_) (o : o_) (h' : hp_) : Prop :=
  ∀ (p : Program) (e : Env) (R : Room) (s : State) (mi : MethodId) (args : Array Value) (below : List Frame) (meth : Method) (c : Code) (H : Heap) (locs : List Loc) (cells slots : Nat) (ls : Array Slot),
    Cx G m p R s mi args meth c → LR m L ls → Rep G h s H → (∀ q ∈ locs, gA G q.base) → hsz h = s.heap.size + cells → cells + (hsz h' - hsz h) ≤ R.cells → slots + (hsl h' - hsl h) ≤ R.slots →
    W p (gl G) e R s mi args below meth c H locs cells slots (vy_MQ below (QcO G o h') (XcO G o h') args s (cells + (hsz h' - hsz h)) (slots + (hsl h' - hsl h)) (gA G)) (F0 mi pc ls st)
/-- the judgement inside a method: from this place on it ends, and Q holds of how and of the heap then -/
def Go_ (G : g_) (m : mt_) (pc : Nat) (L : L_) (st : List Value) (h : hp_) (Q : o_ → hp_ → Prop) : Prop :=
  hwf h → ∃ (o : o_) (h' : hp_), hwf h' ∧ hsz h ≤ hsz h' ∧ hsl h ≤ hsl h' ∧ Q o h' ∧ Mc_ G m pc L st h o h'
theorem Go_.weak {G : g_} {m : mt_} {pc : Nat} {L L' : L_} {st : List Value} {h : hp_} {Q : o_ → hp_ → Prop} (hL : ∀ (i : Nat) (v : Value), L'[i]? = some (some v) → L[i]? = some (some v)) (k : Go_ G m pc L' st h Q) : Go_ G m pc L st h Q := by
  intro hw
  obtain ⟨o, h', a1, a2, a3, a4, a5⟩ := k hw
  exact ⟨o, h', a1, a2, a3, a4, fun p e R s mi args below meth c H locs cells slots ls cx lr => a5 p e R s mi args below meth c H locs cells slots ls cx (lr.weak hL)⟩
theorem Go_.mono {G : g_} {m : mt_} {pc : Nat} {L : L_} {st : List Value} {h : hp_} {Q Q' : o_ → hp_ → Prop} (k : Go_ G m pc L st h Q) (hQ : ∀ o h', hwf h' → hsz h ≤ hsz h' → hsl h ≤ hsl h' → Q o h' → Q' o h') : Go_ G m pc L st h Q' := by
  intro hw
  obtain ⟨o, h', a1, a2, a3, a4, a5⟩ := k hw
  exact ⟨o, h', a1, a2, a3, hQ o h' a1 a2 a3 a4, a5⟩
theorem Go_.wf {G : g_} {m : mt_} {pc : Nat} {L : L_} {st : List Value} {h : hp_} {Q : o_ → hp_ → Prop} (k : hwf h → Go_ G m pc L st h Q) : Go_ G m pc L st h Q := fun hw => k hw hw
theorem Do_.wf {G : g_} {m : mt_} {av : List Value} {h : hp_} {Q : o_ → hp_ → Prop} (k : hwf h → Do_ G m av h Q) : Do_ G m av h Q := fun hw => k hw hw
section STEPS
variable {G : g_} {m : mt_} {pc pc' : Nat} {L L' : L_} {st st' : List Value} {h h1 : hp_} {Q : o_ → hp_ → Prop}
/-- a step that leaves the heap -/
theorem Go_.pure (hS : ∀ {p : Program} {e : Env} {R : Room} {s : State} {mi : MethodId} {args : Array Value} {below : List Frame} {meth : Method} {c : Code} {H : Heap} {locs : List Loc} {cells slots : Nat} {ls : Array Slot} {Qf : State → Prop},
      Cx G m p R s mi args meth c → LR m L ls → Rep G h s H → (∀ ls' : Array Slot, LR m L' ls' → W p (gl G) e R s mi args below meth c H locs cells slots Qf (F0 mi pc' ls' st')) → W p (gl G) e R s mi args below meth c H locs cells slots Qf (F0 mi pc ls st))
    (k : Go_ G m pc' L' st' h Q) : Go_ G m pc L st h Q := by
  intro hw
  obtain ⟨o, h', a1, a2, a3, a4, a5⟩ := k hw
  exact ⟨o, h', a1, a2, a3, a4, fun p e R s mi args below meth c H locs cells slots ls cx lr r hl he hc hs => hS cx lr r fun ls' lr' => a5 p e R s mi args below meth c H locs cells slots ls' cx lr' r hl he hc hs⟩
/-- .. and the locals -/
theorem Go_.pure0 (hS : ∀ {p : Program} {e : Env} {R : Room} {s : State} {mi : MethodId} {args : Array Value} {below : List Frame} {meth : Method} {c : Code} {H : Heap} {locs : List Loc} {cells slots : Nat} {ls : Array Slot} {Qf : State → Prop},
      Cx G m p R s mi args meth c → LR m L ls → Rep G h s H → W p (gl G) e R s mi args below meth c H locs cells slots Qf (F0 mi pc' ls st') → W p (gl G) e R s mi args below meth c H locs cells slots Qf (F0 mi pc ls st))
    (k : Go_ G m pc' L st' h Q) : Go_ G m pc L st h Q := Go_.pure (fun cx lr r kk => hS cx lr r (kk _ lr)) k
/-- a step that writes a cell -/
theorem Go_.write (hwf1 : hwf h → hwf h1) (ez : hsz h1 = hsz h) (es : hsl h1 = hsl h) (hS : ∀ {p : Program} {e : Env} {R : Room} {s : State} {mi : MethodId} {args : Array Value} {below : List Frame} {meth : Method} {c : Code} {H : Heap} {locs : List Loc} {cells slots : Nat} {ls : Array Slot} {Qf : State → Prop},
      Cx G m p R s mi args meth c → LR m L ls → Rep G h s H → (∀ q ∈ locs, gA G q.base) → hsz h = s.heap.size + cells → (∀ (H1 : Heap) (locs1 : List Loc), Rep G h1 s H1 → (∀ q ∈ locs1, gA G q.base) → W p (gl G) e R s mi args below meth c H1 locs1 cells slots Qf (F0 mi pc' ls st')) → W p (gl G) e R s mi args below meth c H locs cells slots Qf (F0 mi pc ls st))
    (k : Go_ G m pc' L st' h1 Q) : Go_ G m pc L st h Q := by
  intro hw
  obtain ⟨o, h', a1, a2, a3, a4, a5⟩ := k (hwf1 hw)
  rw [ez] at a2
  rw [es] at a3
  refine ⟨o, h', a1, a2, a3, a4, fun p e R s mi args below meth c H locs cells slots ls cx lr r hl he hc hs => hS cx lr r hl he fun H1 locs1 r1 hl1 => ?_⟩
  have := a5 p e R s mi args below meth c H1 locs1 cells slots ls cx lr r1 hl1 (by rw [ez]; exact he) (by rw [ez]; exact hc) (by rw [es]; exact hs)
  rw [ez, es] at this
  exact this
/-- a step that makes a cell of n slots -/
theorem Go_.make {n : Nat} (hwf1 : hwf h → hwf h1) (ez : hsz h1 = hsz h + 1) (es : hsl h1 = hsl h + n) (hS : ∀ {p : Program} {e : Env} {R : Room} {s : State} {mi : MethodId} {args : Array Value} {below : List Frame} {meth : Method} {c : Code} {H : Heap} {locs : List Loc} {cells slots : Nat} {ls : Array Slot} {Qf : State → Prop},
      Cx G m p R s mi args meth c → LR m L ls → Rep G h s H → cells + 1 ≤ R.cells → slots + n ≤ R.slots → (∀ (H1 : Heap), Rep G h1 s H1 → W p (gl G) e R s mi args below meth c H1 locs (cells + 1) (slots + n) Qf (F0 mi pc' ls st')) → W p (gl G) e R s mi args below meth c H locs cells slots Qf (F0 mi pc ls st))
    (k : Go_ G m pc' L st' h1 Q) : Go_ G m pc L st h Q := by
  intro hw
  obtain ⟨o, h', a1, a2, a3, a4, a5⟩ := k (hwf1 hw)
  rw [ez] at a2
  rw [es] at a3
  refine ⟨o, h', a1, by omega, by omega, a4, fun p e R s mi args below meth c H locs cells slots ls cx lr r hl he hc hs => hS cx lr r (by omega) (by omega) fun H1 r1 => ?_⟩
  have := a5 p e R s mi args below meth c H1 locs (cells + 1) (slots + n) ls cx lr r1 hl (by rw [ez]; omega) (by rw [ez]; omega) (by rw [es]; omega)
  rw [ez, es, show cells + 1 + (hsz h' - (hsz h + 1)) = cells + (hsz h' - hsz h) by omega, show slots + n + (hsl h' - (hsl h + n)) = slots + (hsl h' - hsl h) by omega] at this
  exact this
end STEPS
theorem W_sz {p : Program} {l : Launch} {e : Env} {R : Room} {s : State} {m : MethodId} {args : Array Value} {below : List Frame} {meth : Method} {c : Code} {H : Heap} {locs : List Loc} {cells slots : Nat} {Q : State → Prop} {g : JFrame}
    (k : H.size ≤ s.heap.size + cells → W p l e R s m args below meth c H locs cells slots Q g) : W p l e R s m args below meth c H locs cells slots Q g :=
  fun T hT X => k (by rw [← hT]; exact X.heapSize) T hT X
/-- the instructions, as what they ask of what comes behind them -/
abbrev K_ : Type := Nat → L_ → List Value → hp_ → Prop
abbrev sem_ : Type := L_ → List Value → hp_ → (o_ → hp_ → Prop) → K_ → Prop
def SemOK (G : g_) (m : mt_) (pc : Nat) (f : sem_) : Prop := ∀ (L : L_) (st : List Value) (h : hp_) (Q : o_ → hp_ → Prop) (k : K_), f L st h Q k → (∀ pc' L' st' h', k pc' L' st' h' → Go_ G m pc' L' st' h' Q) → Go_ G m pc L st h Q
def s_no : sem_ := fun _ _ _ _ _ => False
theorem o_no {G : g_} {m : mt_} {pc : Nat} : SemOK G m pc s_no := fun _ _ _ _ _ h => h.elim
/-- a method's table: by halves -/
def tN (k : Nat) (f g : Nat → sem_) : Nat → sem_ := fun pc => bif Nat.blt pc k then f pc else g pc
def tL (k : Nat) (f : sem_) : Nat → sem_ := fun pc => bif Nat.beq pc k then f else s_no
theorem okN {G : g_} {m : mt_} {k : Nat} {f g : Nat → sem_} (hf : ∀ pc, SemOK G m pc (f pc)) (hg : ∀ pc, SemOK G m pc (g pc)) : ∀ pc, SemOK G m pc (tN k f g pc) := by
  intro pc
  unfold tN
  cases Nat.blt pc k
  · exact hg pc
  · exact hf pc
theorem okL {G : g_} {m : mt_} {k : Nat} {f : sem_} (hf : SemOK G m k f) : ∀ pc, SemOK G m pc (tL k f pc) := by
  intro pc
  unfold tL
  cases h : Nat.beq pc k
  · exact o_no
  · rw [Nat.eq_of_beq_eq_true h]
    exact hf
/-- what is to be shown from pc on: n instructions at most, up to the cuts -/
def wp_ (G : g_) (m : mt_) (tb : Nat → sem_) (cuts : List (Nat × List Bool)) (Q : o_ → hp_ → Prop) : Nat → K_
  | 0, pc, L, st, h => Go_ G m pc L st h Q
  | n + 1, pc, L, st, h => tb pc L st h Q (fun pc' L' st' h' => match cuts.lookup pc' with
    | some bs => Go_ G m pc' (msk bs L') st' h' Q
    | none => wp_ G m tb cuts Q n pc' L' st' h')
theorem wp_ok {G : g_} {m : mt_} {tb : Nat → sem_} (ok : ∀ pc, SemOK G m pc (tb pc)) (cuts : List (Nat × List Bool)) {Q : o_ → hp_ → Prop} : ∀ (n pc : Nat) (L : L_) (st : List Value) (h : hp_), wp_ G m tb cuts Q n pc L st h → Go_ G m pc L st h Q := by
  intro n
  induction n with
  | zero => intro pc L st h k; exact k
  | succ n ih =>
    intro pc L st h k
    refine ok pc L st h Q _ k fun pc' L' st' h' k' => ?_
    revert k'
    split
    · next bs _ => exact fun k' => Go_.weak (msk_get bs L') k'
    · exact fun k' => ih pc' L' st' h' k'
