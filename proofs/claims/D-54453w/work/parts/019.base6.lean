/-! BASE 6: ends, entry, calls -/
set_option maxRecDepth 100000
/-- how a call ends: with no value, an int, a reference or null; or by a throw -/
abbrev RV (P : hp_ → Prop) : o_ → hp_ → Prop := fun o h => o = .inl none ∧ P h
abbrev RI (P : Int32 → hp_ → Prop) : o_ → hp_ → Prop := fun o h => ∃ x, o = .inl (some (.int x)) ∧ P x h
abbrev RN (P : Nat → hp_ → Prop) : o_ → hp_ → Prop := fun o h => ∃ a, o = .inl (some (.ref a)) ∧ P a h
abbrev RO (A : hp_ → Prop) (B : Nat → hp_ → Prop) : o_ → hp_ → Prop := fun o h => (o = .inl (some .null) ∧ A h) ∨ ∃ a, o = .inl (some (.ref a)) ∧ B a h
def RX (P : o_ → hp_ → Prop) (E : Nat → hp_ → Prop) : o_ → hp_ → Prop := fun o h => match o with
  | .inl r => P (.inl r) h
  | .inr q => E q h
def s_iret : sem_ := fun _ st h Q _ => match st with
  | [.int x] => Q (.inl (some (.int x))) h
  | _ => False
def s_zret (ty : FieldType) : sem_ := fun _ st h Q _ => match st with
  | [.int x] => narrow ty (.int x) = .int x ∧ Q (.inl (some (.int x))) h
  | _ => False
def s_aret : sem_ := fun _ st h Q _ => match st with
  | [v] => rvk v (Q (.inl (some v)) h)
  | _ => False
def s_vret : sem_ := fun _ st h Q _ => match st with
  | [] => Q (.inl none) h
  | _ => False
def s_athrow : sem_ := fun _ st h Q _ => match st with
  | .ref q :: _ => cls_at h q = some 9 ∧ Q (.inr q) h
  | _ => False
/-- the exception q over this method's frame -/
def McX_ (G : g_) (m : mt_) (pc : Nat) (L : L_) (q : Nat) (h : hp_) (o : o_) (h' : hp_) : Prop :=
  ∀ (p : Program) (e : Env) (R : Room) (s : State) (mi : MethodId) (args : Array Value) (below : List Frame) (meth : Method) (c : Code) (H : Heap) (locs : List Loc) (cells slots : Nat) (ls : Array Slot) (st : List Value),
    Cx G m p R s mi args meth c → LR m L ls → Rep G h s H → (∀ q ∈ locs, gA G q.base) → hsz h = s.heap.size + cells → cells + (hsz h' - hsz h) ≤ R.cells → slots + (hsl h' - hsl h) ≤ R.slots →
    vy_W p (gl G) e R s mi args below meth c H locs cells slots (vy_MQ below (QcO G o h') (XcO G o h') args s (cells + (hsz h' - hsz h)) (slots + (hsl h' - hsl h)) (gA G)) (F0 mi pc ls st) q
def GoX_ (G : g_) (m : mt_) (pc : Nat) (L : L_) (q : Nat) (h : hp_) (Q : o_ → hp_ → Prop) : Prop :=
  hwf h → ∃ (o : o_) (h' : hp_), hwf h' ∧ hsz h ≤ hsz h' ∧ hsl h ≤ hsl h' ∧ Q o h' ∧ McX_ G m pc L q h o h'
theorem flt_at {G : g_} {s : State} {H : Heap} {h : hp_} (en : En G s) (rp : Rep G h s H) {q : Nat} (hc : cls_at h q = some 9) : ∃ ce : Cell, H[q]? = some ce ∧ ce.vm = .none ∧ s.vm.findClass "MemberShelf$Fault" = some ce.cls := by
  obtain ⟨fs, hg⟩ := of_cls_at hc
  obtain ⟨-, r, hr, cell, e1, e2, e3, -⟩ := rp.at hg (fun f => by simp)
  cases hr
  exact ⟨cell, e1, e3, by rw [e2]; exact (en.1.1 9 _ rfl).2.1⟩
section OK6
variable {G : g_} {m : mt_} {pc : Nat}
theorem GoX_.out {L : L_} {q : Nat} {h : hp_} {Q : o_ → hp_ → Prop} (hH : mH m = []) (hc : cls_at h q = some 9) (hQ : Q (.inr q) h) : GoX_ G m pc L q h Q := by
  intro hw
  refine ⟨.inr q, h, hw, Nat.le_refl _, Nat.le_refl _, hQ, fun p e R s mi args below meth c H locs cells slots ls st cx lr rp hl he h1 h2 => ?_⟩
  obtain ⟨ce, e1, e2, e3⟩ := flt_at cx.en rp hc
  have hx : ∀ x ∈ c.exceptionTable.toList, covers x pc = false := by
    intro x hx
    have := cx.hh
    rw [hH] at this
    rw [List.map_eq_nil_iff.mp this] at hx
    cases hx
  exact vy_out hx cx.lk e1 e2 e3 (fun t ht hal => ⟨rfl, rfl, by rw [ht]; exact rp.moved hal⟩) hl (by omega) (by omega)
theorem o_athrow (hd : decode (mB m) pc = .ok (.athrow, 1)) (hH : mH m = []) : SemOK G m pc s_athrow := by
  intro L st h Q k hs hk
  unfold s_athrow at hs
  split at hs
  · next q r =>
    intro hw
    obtain ⟨o, h', a1, a2, a3, a4, a5⟩ := GoX_.out (G := G) (m := m) (pc := pc) (L := L) hH hs.1 hs.2 hw
    exact ⟨o, h', a1, a2, a3, a4, fun p e R s mi args below meth c H locs cells slots ls cx lr rp hl he h1 h2 => vy_athrow cx.ex cx.cb hd (a5 p e R s mi args below meth c H locs cells slots ls r cx lr rp hl he h1 h2)⟩
  · exact hs.elim
theorem o_iret (hd : decode (mB m) pc = .ok (.ireturn, 1)) (hr : mR m = some .int) : SemOK G m pc s_iret := by
  intro L st h Q k hs hk
  unfold s_iret at hs
  split at hs
  · next x =>
    intro hw
    refine ⟨.inl (some (.int x)), h, hw, Nat.le_refl _, Nat.le_refl _, hs, fun p e R s mi args below meth c H locs cells slots ls cx lr rp hl he h1 h2 => ?_⟩
    rw [Nat.sub_self, Nat.sub_self]
    exact vy_ret (W.iret cx.ex cx.cb (cx.rt.trans hr) (fun t ht hW => ⟨rfl, by rw [ht]; exact rp.moved hW.alike⟩) hl hd cx.lk)
  · exact hs.elim
theorem o_zret {ty : FieldType} (hd : decode (mB m) pc = .ok (.ireturn, 1)) (hr : mR m = some ty) : SemOK G m pc (s_zret ty) := by
  intro L st h Q k hs hk
  unfold s_zret at hs
  split at hs
  · next x =>
    intro hw
    refine ⟨.inl (some (.int x)), h, hw, Nat.le_refl _, Nat.le_refl _, hs.2, fun p e R s mi args below meth c H locs cells slots ls cx lr rp hl he h1 h2 => ?_⟩
    rw [Nat.sub_self, Nat.sub_self]
    exact vy_ret (W.zret cx.ex cx.cb (cx.rt.trans hr) hs.1 (fun t ht hW => ⟨rfl, by rw [ht]; exact rp.moved hW.alike⟩) hl hd cx.lk)
  · exact hs.elim
theorem o_aret {ty : FieldType} (hd : decode (mB m) pc = .ok (.areturn, 1)) (hr : mR m = some ty) (ht : (∃ n, ty = .object n) ∨ ∃ t, ty = .array t) : SemOK G m pc s_aret := by
  intro L st h Q k hs hk
  unfold s_aret at hs
  split at hs
  · next v =>
    obtain ⟨⟨w, rfl⟩, hs⟩ := rvk_of hs
    intro hw
    refine ⟨.inl (some (va_rf w)), h, hw, Nat.le_refl _, Nat.le_refl _, hs, fun p e R s mi args below meth c H locs cells slots ls cx lr rp hl he h1 h2 => ?_⟩
    rw [Nat.sub_self, Nat.sub_self]
    exact vy_ret (W.aret cx.ex cx.cb (cx.rt.trans hr) ht (by cases w with | none => exact Or.inl rfl | some a => exact Or.inr ⟨a, rfl⟩) (fun t ht hW => ⟨rfl, by rw [ht]; exact rp.moved hW.alike⟩) hl hd cx.lk)
  · exact hs.elim
theorem o_vret (hd : decode (mB m) pc = .ok (.return_, 1)) (hr : mR m = none) : SemOK G m pc s_vret := by
  intro L st h Q k hs hk
  unfold s_vret at hs
  split at hs
  · intro hw
    refine ⟨.inl none, h, hw, Nat.le_refl _, Nat.le_refl _, hs, fun p e R s mi args below meth c H locs cells slots ls cx lr rp hl he h1 h2 => ?_⟩
    rw [Nat.sub_self, Nat.sub_self]
    exact vy_ret (W.vret cx.ex cx.cb (cx.rt.trans hr) (fun t ht hW => ⟨rfl, by rw [ht]; exact rp.moved hW.alike⟩) hl hd cx.lk)
  · exact hs.elim
end OK6
/-- the locals at the entry -/
def entL (av : List Value) (n : Nat) : L_ := av.map some ++ List.replicate (n - av.length) none
def catsk : List Value → Prop
  | [] => True
  | v :: t => catk v (catsk t)
theorem catsk_all : ∀ {av : List Value}, catsk av → ∀ v ∈ av, v.category = 1
  | [], _, v, h => by cases h
  | a :: t, hc, v, h => by
    obtain ⟨h1, h2⟩ := catk_of (v := a) (P := catsk t) hc
    rcases List.mem_cons.mp h with rfl | h
    · exact h1
    · exact catsk_all h2 v h
theorem args_mem : ∀ (av : List Value) (k i : Nat) (v : Value), (∀ v ∈ av, v.category = 1) → av[i]? = some v → (k + i, v) ∈ lv_args k av
  | [], k, i, v, _, h => by simp at h
  | a :: t, k, 0, v, hc, h => by
    have h : a = v := by simpa using h
    subst h
    exact List.mem_cons_self
  | a :: t, k, i + 1, v, hc, h => by
    have h : t[i]? = some v := by simpa using h
    have h1 := args_mem t (k + 1) i v (fun w hw => hc w (List.mem_cons_of_mem _ hw)) h
    show (k + (i + 1), v) ∈ (k, a) :: lv_args (if a.category = 2 then k + 2 else k + 1) t
    rw [if_neg (by rw [hc a List.mem_cons_self]; decide), show k + (i + 1) = k + 1 + i by omega]
    exact List.mem_cons_of_mem _ h1
theorem entL_get {av : List Value} {n i : Nat} {v : Value} (h : (entL av n)[i]? = some (some v)) : av[i]? = some v := by
  unfold entL at h
  by_cases hl : i < av.length
  · rw [List.getElem?_append_left (by simpa using hl), List.getElem?_map] at h
    cases hx : av[i]? with
    | none => rw [hx] at h; cases h
    | some w => rw [hx] at h; cases h; rfl
  · rw [List.getElem?_append_right (by simpa using Nat.le_of_not_lt hl)] at h
    have := List.mem_of_getElem? h
    rw [List.mem_replicate] at this
    cases this.2
theorem sl_len : ∀ (av : List Value), (∀ v ∈ av, v.category = 1) → (lg_sl av).length = av.length
  | [], _ => rfl
  | a :: t, hc => by
    have h1 := sl_len t (fun w hw => hc w (List.mem_cons_of_mem _ hw))
    have : lg_sl (a :: t) = [.val a] ++ lg_sl t := by
      show (a :: t).flatMap _ = _
      rw [List.flatMap_cons, if_neg (by rw [hc a List.mem_cons_self]; decide)]
      rfl
    rw [this, List.length_append, h1]
    simp; omega
section ENTER
variable {G : g_} {m : mt_}
theorem mW_nil (hH : mH m = []) : mW m = ws_ (mY m) (mB m) (mL m) (mR m) := by unfold mW; rw [hH]
theorem Do_.body {av : List Value} {h : hp_} {Q : o_ → hp_ → Prop} {L : L_} (hp : plainFor (mY m) = true) (hH : mH m = []) (hlen : (lg_sl av).length ≤ mL m)
    (hL : ∀ (i : Nat) (v : Value), L[i]? = some (some v) → (i, v) ∈ lv_args 0 av) (hN : mN m = true → ∀ v ∈ av, v.category = 1) (hLa : ∀ (i : Nat) (v : Value), L[i]? = some (some v) → v ∈ av) (k : Go_ G m 0 L [] h Q) : Do_ G m av h Q := by
  intro hw
  obtain ⟨o, h', a1, a2, a3, a4, a5⟩ := k hw
  refine ⟨o, h', a1, a2, a3, a4, ?_⟩
  unfold Ct_
  rw [mW_nil hH]
  refine vy_ofW (cc := mB m) (maxL := mL m) (ret := mR m) hp rfl ?_
  intro p e s mi args below meth c s₁ B hml ht hP
  obtain ⟨rfl, hen, hrep⟩ := hP
  have hts := atoms_spec (ws := ws_ (mY m) (mB m) (mL m) (mR m)) B.pre
  have cx : Cx G m p (rmO m h h') s mi av.toArray meth c := ⟨B.exec, B.bytes, B.returns, B.notSynchronized, hml, findClass_of_methodNamed B.named, (name_of_methodNamed B.named B.method).1, fun w h => hts w (List.mem_cons_of_mem _ h), hen, rfl, rfl, by
    rw [hH, List.map_eq_nil_iff]
    exact List.eq_nil_iff_forall_not_mem.mpr fun x hx => ht x hx⟩
  have hlv := lv_entry av hlen
  rw [lg_entry_eq]
  have lr : LR m L ((lg_sl av ++ List.replicate (mL m - (lg_sl av).length) Slot.unset).toArray) := ⟨hlv.1, hlv.2.1, fun i v hi => hlv.2.2 (i, v) (hL i v hi), fun hn i v hi => hN hn v (hLa i v hi)⟩
  have := a5 p e (rmO m h h') s mi av.toArray below meth c s.heap [] 0 0 _ cx lr hrep (fun q hq => by cases hq) (by rw [Nat.add_zero]; exact hrep.1.symm) (by rw [Nat.zero_add]; exact Nat.le_refl _) (by rw [Nat.zero_add]; exact Nat.le_refl _)
  rw [Nat.zero_add, Nat.zero_add] at this
  exact this
theorem Do_.enter {av : List Value} {h : hp_} {Q : o_ → hp_ → Prop} {L : L_} (hp : plainFor (mY m) = true) (hH : mH m = []) (hlen : av.length ≤ mL m) (hc : catsk av) (hL : entL av (mL m) = L) (k : Go_ G m 0 L [] h Q) : Do_ G m av h Q := by
  subst hL
  have hc1 := catsk_all hc
  refine Do_.body hp hH (by rw [sl_len av hc1]; exact hlen) (fun i v hi => ?_) (fun _ => hc1) (fun i v hi => List.mem_of_getElem? (entL_get hi)) k
  have := args_mem av 0 i v hc1 (entL_get hi)
  rwa [Nat.zero_add] at this
end ENTER
/-- a call's run: it comes back, or throws -/
def Rn_ (len : Nat) (p : Program) (l : Launch) (e : Env) (R : Room) (s : State) (m : MethodId) (args : Array Value) (below : List Frame) (meth : Method) (c : Code) (H : Heap) (locs : List Loc) (cells slots mc ms : Nat) (g : JFrame) (rest : List Value) (Qa : State → Outcome → State → Prop) (Xa : Addr → String → State → State → Prop) (free : Addr → Prop) : Prop :=
  ∀ T : State, T.heap = H → Stand p l e R s m args below meth c T locs cells slots →
    (∃ (v : Option Value) (st₀ t T' : State) (L : List Loc), st₀.heap = H ∧ Stand p l e R s m args below meth c T' (locs ++ L) (cells + mc) (slots + ms) ∧ (∀ q ∈ L, free q.base) ∧ T'.heap = t.heap ∧ T'.vm = t.vm ∧ Qa st₀ (.returned v) t ∧
      Goes p e below T g T' { g with pc := g.pc + len, stack := v.toList ++ rest }) ∨
    (∃ (q : Addr) (st₀ t T' : State) (L : List Loc) (E : String) (ce : Cell), st₀.heap = H ∧ Stand p l e R s m args below meth c T' (locs ++ L) (cells + mc) (slots + ms) ∧ (∀ z ∈ L, free z.base) ∧ T'.heap = t.heap ∧ T'.vm = t.vm ∧ Xa q E st₀ t ∧ t.heap[q]? = some ce ∧ ce.vm = .none ∧ s.vm.findClass E = some ce.cls ∧
      Steps p.tables e below (T.setTop g) ((T'.setTop { g with stack := rest }).pushFrame (.throwing q)))
section CALLS
variable {G : g_} {m : mt_} {pc : Nat}
theorem Go_.call {len : Nat} {thr : Bool} {m' : mt_} {av r st : List Value} {L : L_} {h : hp_} {Q : o_ → hp_ → Prop}
    (hrun : ∀ {p : Program} {e : Env} {R : Room} {s : State} {mi : MethodId} {args : Array Value} {below : List Frame} {meth : Method} {c : Code} {H : Heap} {locs : List Loc} {cells slots : Nat} {ls : Array Slot},
      Cx G m p R s mi args meth c → LR m L ls → Rep G h s H → ∀ (o : o_) (h1 : hp_), (thr = false → ∀ q, o ≠ .inr q) → Ct_ G m' av h o h1 → (cells + (hsz h1 - hsz h) ≤ R.cells ∧ slots + (hsl h1 - hsl h) ≤ R.slots) →
      Rn_ len p (gl G) e R s mi args below meth c H locs cells slots (hsz h1 - hsz h) (hsl h1 - hsl h) (F0 mi pc ls st) r (QcO G o h1 av.toArray) (XcO G o h1) (gA G))
    (k : Do_ G m' av h (fun o h1 => match o with
      | .inl v => Go_ G m (pc + len) L (v.toList ++ r) h1 Q
      | .inr q => thr = true ∧ GoX_ G m pc L q h1 Q)) : Go_ G m pc L st h Q := by
  intro hw
  obtain ⟨o, h1, b1, b2, b3, b4, b5⟩ := k hw
  cases o with
  | inl v =>
    obtain ⟨o', h', a1, a2, a3, a4, a5⟩ := b4 b1
    refine ⟨o', h', a1, Nat.le_trans b2 a2, Nat.le_trans b3 a3, a4, fun p e R s mi args below meth c H locs cells slots ls cx lr rp hl he hc hs => ?_⟩
    have hR := hrun (below := below) (locs := locs) (e := e) cx lr rp (.inl v) h1 (fun _ q e => by cases e) b5 (cells := cells) (slots := slots) ⟨by omega, by omega⟩
    intro T hT X
    rcases hR T hT X with ⟨v', st₀, t, T', Ls, e0, X', hL, e1, e2, ⟨hq1, hq2⟩, st'⟩ | ⟨q, st₀, t, T', Ls, E, ce, e0, X', hL, e1, e2, hx, -⟩
    · cases hq1
      have rp1 : Rep G h1 s T'.heap := by
        rw [e1]
        exact hq2.moved (by rw [← e2]; exact X'.warmed.alike.symm)
      have hz := a5 p e R s mi args below meth c T'.heap (locs ++ Ls) (cells + (hsz h1 - hsz h)) (slots + (hsl h1 - hsl h)) ls cx lr rp1 (fun q hq => (List.mem_append.mp hq).elim (hl q) (hL q)) (by omega) (by omega) (by omega)
      rw [show cells + (hsz h1 - hsz h) + (hsz h' - hsz h1) = cells + (hsz h' - hsz h) by omega, show slots + (hsl h1 - hsl h) + (hsl h' - hsl h1) = slots + (hsl h' - hsl h) by omega] at hz
      obtain ⟨t2, c1, c2⟩ := hz T' rfl X'
      exact ⟨t2, st' t2 c1, c2⟩
    · exact hx.elim
  | inr q0 =>
    obtain ⟨hthr, b4⟩ := b4
    obtain ⟨o', h', a1, a2, a3, a4, a5⟩ := b4 b1
    refine ⟨o', h', a1, Nat.le_trans b2 a2, Nat.le_trans b3 a3, a4, fun p e R s mi args below meth c H locs cells slots ls cx lr rp hl he hc hs => ?_⟩
    have hR := hrun (below := below) (locs := locs) (e := e) cx lr rp (.inr q0) h1 (fun e => by rw [hthr] at e; cases e) b5 (cells := cells) (slots := slots) ⟨by omega, by omega⟩
    intro T hT X
    rcases hR T hT X with ⟨v', st₀, t, T', Ls, e0, X', hL, e1, e2, hq, st'⟩ | ⟨q, st₀, t, T', Ls, E, ce, e0, X', hL, e1, e2, ⟨rfl, hE, hq2⟩, -, -, -, st'⟩
    · exact hq.elim
    · have rp1 : Rep G h1 s T'.heap := by
        rw [e1]
        exact hq2.moved (by rw [← e2]; exact X'.warmed.alike.symm)
      have hz := a5 p e R s mi args below meth c T'.heap (locs ++ Ls) (cells + (hsz h1 - hsz h)) (slots + (hsl h1 - hsl h)) ls r cx lr rp1 (fun q hq => (List.mem_append.mp hq).elim (hl q) (hL q)) (by omega) (by omega) (by omega)
      rw [show cells + (hsz h1 - hsz h) + (hsz h' - hsz h1) = cells + (hsz h' - hsz h) by omega, show slots + (hsl h1 - hsl h) + (hsl h' - hsl h1) = slots + (hsl h' - hsl h) by omega] at hz
      obtain ⟨t2, c1, c2⟩ := hz T' rfl X'
      exact ⟨t2, st'.trans c1, c2⟩
theorem Ct_.met {m' : mt_} {av : List Value} {h h1 : hp_} {o : o_} (hH : mH m' = []) (hC : Ct_ G m' av h o h1) (ho : ∀ q, o ≠ .inr q) : Met (gl G) (mY m') (ws_ (mY m') (mB m') (mL m') (mR m')) (rmO m' h h1) (va_Pc av (fun U => En G U ∧ Rep G h U U.heap)) (QcO G o h1) (hsz h1 - hsz h) (hsl h1 - hsl h) (gA G) := by
  unfold Ct_ at hC
  rw [mW_nil hH] at hC
  refine MetFree.mono hC (fun _ _ h => h) (fun _ _ _ _ _ h => h) (fun a s oc t _ hq => ?_)
  rcases hq with hq | ⟨q, -, E, ce, Ls, hx, -⟩
  · exact hq
  · cases o with
    | inl v => exact hx.elim
    | inr q0 => exact absurd rfl (ho q0)
theorem pre_bl (av : List Value) (h : hp_) : FrameBlind (va_Pc av (fun U => En G U ∧ Rep G h U U.heap)) := by
  intro a U g mk q
  obtain ⟨q0, q1, q2⟩ := q
  exact ⟨q0, q1.warm (U := U.calling g mk a) (State.WarmedH.refl U), q2.moved (U := U.calling g mk a) (Vm.Alike.refl U.vm)⟩
theorem pre_U {s : State} {H : Heap} {h : hp_} (en : En G s) (rp : Rep G h s H) (av : List Value) : ∀ U : State, U.heap = H → s.WarmedH U.vm → va_Pc av (fun U => En G U ∧ Rep G h U U.heap) av.toArray U := by
  intro U hU hW
  exact ⟨rfl, en.warm hW, by rw [hU]; exact rp.moved hW.alike⟩
end CALLS
