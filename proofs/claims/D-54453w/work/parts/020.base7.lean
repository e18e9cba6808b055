/-! BASE 7: calls, each kind -/
set_option maxRecDepth 100000
/-- the arguments of a call, off the stack -/
def takeA : Nat → List Value → List Value → Option (List Value × List Value)
  | 0, acc, st => some (acc, st)
  | _ + 1, _, [] => none
  | n + 1, acc, v :: st => takeA n (v :: acc) st
theorem takeA_of : ∀ (n : Nat) (acc st av r : List Value), takeA n acc st = some (av, r) → ∃ t, st = t ++ r ∧ av = t.reverse ++ acc ∧ t.length = n
  | 0, acc, st, av, r, h => by
    cases h
    exact ⟨[], rfl, rfl, rfl⟩
  | n + 1, acc, [], av, r, h => by cases h
  | n + 1, acc, v :: st, av, r, h => by
    obtain ⟨t, h1, h2, h3⟩ := takeA_of n (v :: acc) st av r h
    exact ⟨v :: t, by rw [h1]; rfl, by rw [h2]; simp, by simp [h3]⟩
theorem takeA_st {n : Nat} {st av r : List Value} (h : takeA n [] st = some (av, r)) : st = av.reverse ++ r ∧ av.length = n := by
  obtain ⟨t, h1, h2, h3⟩ := takeA_of n [] st av r h
  rw [List.append_nil] at h2
  exact ⟨by rw [h2, List.reverse_reverse]; exact h1, by rw [h2, List.length_reverse]; exact h3⟩
/-- the receiver is of this class -/
def rck (c : Option Nat) (av : List Value) (h : hp_) (P : Prop) : Prop := match c with
  | none => P
  | some c => match av with
    | .ref b :: _ => cls_at h b = some c ∧ P
    | _ => False
def rcv (c : Option Nat) (av : List Value) (h : hp_) : Prop := match c with
  | none => True
  | some c => ∃ b as, av = .ref b :: as ∧ cls_at h b = some c
theorem rck_of {c : Option Nat} {av : List Value} {h : hp_} {P : Prop} (k : rck c av h P) : rcv c av h ∧ P := by
  cases c with
  | none => exact ⟨trivial, k⟩
  | some c =>
    unfold rck at k
    dsimp only at k
    split at k
    · next b as => exact ⟨⟨b, as, rfl, k.1⟩, k.2⟩
    · exact k.elim
def dok (G : g_) (m' : mt_) (av : List Value) (h : hp_) (ty : Nat) (K : List Value → hp_ → Prop) : Prop := match ty with
  | 0 => Do_ G m' av h (RV fun h1 => K [] h1)
  | 1 => Do_ G m' av h (RI fun x h1 => K [.int x] h1)
  | 2 => Do_ G m' av h (RN fun a h1 => K [.ref a] h1)
  | _ => Do_ G m' av h (RO (fun h1 => K [.null] h1) (fun a h1 => K [.ref a] h1))
def dokX (G : g_) (m' : mt_) (av : List Value) (h : hp_) (ty : Nat) (K : List Value → hp_ → Prop) (E : Nat → hp_ → Prop) : Prop := match ty with
  | 0 => Do_ G m' av h (RX (RV fun h1 => K [] h1) E)
  | 1 => Do_ G m' av h (RX (RI fun x h1 => K [.int x] h1) E)
  | _ => Do_ G m' av h (RX (RN fun a h1 => K [.ref a] h1) E)
def s_call (G : g_) (n : Nat) (c : Option Nat) (m' : mt_) (ty nx : Nat) : sem_ := fun L st h _ k => match takeA n [] st with
  | some (av, r) => match Nat.ble r.length 4 with
    | true => rck c av h (dok G m' av h ty (fun vs h1 => k nx L (vs ++ r) h1))
    | false => False
  | none => False
/-- a call that may throw, not caught here -/
def s_callX (G : g_) (n : Nat) (c : Option Nat) (m' : mt_) (ty nx : Nat) : sem_ := fun L st h Q k => match takeA n [] st with
  | some (av, r) => match Nat.ble r.length 4 with
    | true => rck c av h (dokX G m' av h ty (fun vs h1 => k nx L (vs ++ r) h1) (fun q h1 => cls_at h1 q = some 9 ∧ Q (.inr q) h1))
    | false => False
  | none => False
/-- .. caught here, at hpc -/
def s_callH (G : g_) (n : Nat) (c : Option Nat) (m' : mt_) (ty nx hpc : Nat) : sem_ := fun L st h _ k => match takeA n [] st with
  | some (av, r) => match Nat.ble r.length 4 with
    | true => rck c av h (dokX G m' av h ty (fun vs h1 => k nx L (vs ++ r) h1) (fun q h1 => cls_at h1 q = some 9 ∧ k hpc L [.ref q] h1))
    | false => False
  | none => False
/-- .. by the receiver's class -/
def pck : List (Nat × mt_) → List Value → hp_ → (mt_ → Prop) → Prop
  | [], _, _, _ => False
  | (c, m') :: t, av, h, P => rck (some c) av h (P m') ∨ pck t av h P
def s_callP (G : g_) (n : Nat) (tg : List (Nat × mt_)) (ty nx : Nat) : sem_ := fun L st h _ k => match takeA n [] st with
  | some (av, r) => match Nat.ble r.length 4 with
    | true => pck tg av h (fun m' => dok G m' av h ty (fun vs h1 => k nx L (vs ++ r) h1))
    | false => False
  | none => False
theorem pck_of {tg : List (Nat × mt_)} {av : List Value} {h : hp_} {P : mt_ → Prop} (k : pck tg av h P) : ∃ c m', (c, m') ∈ tg ∧ rcv (some c) av h ∧ P m' := by
  induction tg with
  | nil => exact k.elim
  | cons a t ih =>
    obtain ⟨c, m'⟩ := a
    rcases k with k | k
    · obtain ⟨h1, h2⟩ := rck_of k
      exact ⟨c, m', List.mem_cons_self, h1, h2⟩
    · obtain ⟨c', m1, h1, h2⟩ := ih k
      exact ⟨c', m1, List.mem_cons_of_mem _ h1, h2⟩
def RunOK (G : g_) (m : mt_) (pc len n : Nat) (m' : mt_) (thr : Bool) (rc : Option Nat) : Prop :=
  ∀ {av r : List Value} {L : L_} {h : hp_} {p : Program} {e : Env} {R : Room} {s : State} {mi : MethodId} {args : Array Value} {below : List Frame} {meth : Method} {c : Code} {H : Heap} {locs : List Loc} {cells slots : Nat} {ls : Array Slot},
    av.length = n → (r.map fun v => v.category).sum ≤ 8 → rcv rc av h → Cx G m p R s mi args meth c → LR m L ls → Rep G h s H → ∀ (o : o_) (h1 : hp_), (thr = false → ∀ q, o ≠ .inr q) → Ct_ G m' av h o h1 → (cells + (hsz h1 - hsz h) ≤ R.cells ∧ slots + (hsl h1 - hsl h) ≤ R.slots) →
    Rn_ len p (gl G) e R s mi args below meth c H locs cells slots (hsz h1 - hsz h) (hsl h1 - hsl h) (F0 mi pc ls (av.reverse ++ r)) r (QcO G o h1 av.toArray) (XcO G o h1) (gA G)
theorem cat_le (v : Value) : v.category ≤ 2 := by rcases lv_cat v with h | h <;> omega
theorem sum_cat : ∀ (r : List Value), (r.map fun v => v.category).sum ≤ 2 * r.length
  | [] => by simp
  | v :: t => by
    have := sum_cat t
    have := cat_le v
    simp only [List.map_cons, List.sum_cons, List.length_cons]
    omega
theorem sum8 {r : List Value} (h : Nat.ble r.length 4 = true) : (r.map fun v => v.category).sum ≤ 8 := by
  have := sum_cat r
  have := Nat.le_of_ble_eq_true h
  omega
section CALLS7
variable {G : g_} {m : mt_} {pc : Nat}
theorem call_go {len n : Nat} {thr : Bool} {rc : Option Nat} {m' : mt_} {av r : List Value} {L : L_} {h : hp_} {Q : o_ → hp_ → Prop} {ty : Nat} {K : List Value → hp_ → Prop} (hR : RunOK G m pc len n m' thr rc) (hn : av.length = n) (h8 : (r.map fun v => v.category).sum ≤ 8) (hrc : rcv rc av h)
    (hk : ∀ vs h1, K vs h1 → Go_ G m (pc + len) L (vs ++ r) h1 Q) (k : dok G m' av h ty K) : Go_ G m pc L (av.reverse ++ r) h Q := by
  refine Go_.call (thr := thr) (m' := m') (len := len) (av := av) (r := r) (fun cx lr rp o h1 => hR hn h8 hrc cx lr rp o h1) ?_
  unfold dok at k
  split at k
  · refine Do_.mono k fun o h1 _ _ _ ⟨e, hq⟩ => ?_
    subst e
    exact hk [] h1 hq
  · refine Do_.mono k fun o h1 _ _ _ ⟨x, e, hq⟩ => ?_
    subst e
    exact hk [.int x] h1 hq
  · refine Do_.mono k fun o h1 _ _ _ ⟨w, e, hq⟩ => ?_
    subst e
    exact hk [.ref w] h1 hq
  · refine Do_.mono k fun o h1 _ _ _ hq => ?_
    rcases hq with ⟨e, hq⟩ | ⟨w, e, hq⟩
    · subst e
      exact hk [.null] h1 hq
    · subst e
      exact hk [.ref w] h1 hq
theorem callX_go {len n : Nat} {rc : Option Nat} {m' : mt_} {av r : List Value} {L : L_} {h : hp_} {Q : o_ → hp_ → Prop} {ty : Nat} {K : List Value → hp_ → Prop} {E : Nat → hp_ → Prop} (hR : RunOK G m pc len n m' true rc) (hn : av.length = n) (h8 : (r.map fun v => v.category).sum ≤ 8) (hrc : rcv rc av h)
    (hk : ∀ vs h1, K vs h1 → Go_ G m (pc + len) L (vs ++ r) h1 Q) (hE : ∀ q h1, E q h1 → GoX_ G m pc L q h1 Q) (k : dokX G m' av h ty K E) : Go_ G m pc L (av.reverse ++ r) h Q := by
  refine Go_.call (thr := true) (m' := m') (len := len) (av := av) (r := r) (fun cx lr rp o h1 => hR hn h8 hrc cx lr rp o h1) ?_
  unfold dokX at k
  split at k
  · refine Do_.mono k fun o h1 _ _ _ hq => ?_
    cases o with
    | inl v =>
      obtain ⟨e, hq⟩ := hq
      cases e
      exact hk [] h1 hq
    | inr q => exact ⟨rfl, hE q h1 hq⟩
  · refine Do_.mono k fun o h1 _ _ _ hq => ?_
    cases o with
    | inl v =>
      obtain ⟨x, e, hq⟩ := hq
      cases e
      exact hk [.int x] h1 hq
    | inr q => exact ⟨rfl, hE q h1 hq⟩
  · refine Do_.mono k fun o h1 _ _ _ hq => ?_
    cases o with
    | inl v =>
      obtain ⟨x, e, hq⟩ := hq
      cases e
      exact hk [.ref x] h1 hq
    | inr q => exact ⟨rfl, hE q h1 hq⟩
theorem o_call {len n ty : Nat} {thr : Bool} {rc : Option Nat} {m' : mt_} (hR : RunOK G m pc len n m' thr rc) : SemOK G m pc (s_call G n rc m' ty (pc + len)) := by
  intro L st h Q k hs hk
  unfold s_call at hs
  split at hs
  · next av r ht =>
    split at hs
    · next h4 =>
      obtain ⟨rfl, hn⟩ := takeA_st ht
      obtain ⟨h1, h2⟩ := rck_of hs
      exact call_go hR hn (sum8 h4) h1 (fun vs h1 hq => hk _ _ _ _ hq) h2
    · exact hs.elim
  · exact hs.elim
theorem o_callX {len n ty : Nat} {rc : Option Nat} {m' : mt_} (hR : RunOK G m pc len n m' true rc) (hH : mH m = []) : SemOK G m pc (s_callX G n rc m' ty (pc + len)) := by
  intro L st h Q k hs hk
  unfold s_callX at hs
  split at hs
  · next av r ht =>
    split at hs
    · next h4 =>
      obtain ⟨rfl, hn⟩ := takeA_st ht
      obtain ⟨h1, h2⟩ := rck_of hs
      exact callX_go hR hn (sum8 h4) h1 (fun vs h1 hq => hk _ _ _ _ hq) (fun q h1 hq => GoX_.out hH hq.1 hq.2) h2
    · exact hs.elim
  · exact hs.elim
theorem o_callP {len n ty : Nat} {thr : Bool} {tg : List (Nat × mt_)} (hR : ∀ q ∈ tg, RunOK G m pc len n q.2 thr (some q.1)) : SemOK G m pc (s_callP G n tg ty (pc + len)) := by
  intro L st h Q k hs hk
  unfold s_callP at hs
  split at hs
  · next av r ht =>
    split at hs
    · next h4 =>
      obtain ⟨rfl, hn⟩ := takeA_st ht
      obtain ⟨c, m', hm, h1, h2⟩ := pck_of hs
      exact call_go (hR _ hm) hn (sum8 h4) h1 (fun vs h1 hq => hk _ _ _ _ hq) h2
    · exact hs.elim
  · exact hs.elim
theorem Rn_.of3 {p : Program} {l : Launch} {e : Env} {R : Room} {s : State} {m : MethodId} {args : Array Value} {below : List Frame} {meth : Method} {c : Code} {H : Heap} {locs : List Loc} {cells slots mc ms : Nat} {g : JFrame} {rest : List Value} {Qa : State → Outcome → State → Prop} {Xa : Addr → String → State → State → Prop} {free : Addr → Prop}
    (h : va_Run p l e R s m args below meth c H locs cells slots mc ms g rest Qa free) : Rn_ 3 p l e R s m args below meth c H locs cells slots mc ms g rest Qa Xa free := fun T hT X => Or.inl (h T hT X)
theorem Rn_.of5 {p : Program} {l : Launch} {e : Env} {R : Room} {s : State} {m : MethodId} {args : Array Value} {below : List Frame} {meth : Method} {c : Code} {H : Heap} {locs : List Loc} {cells slots mc ms : Nat} {g : JFrame} {rest : List Value} {Qa : State → Outcome → State → Prop} {Xa : Addr → String → State → State → Prop} {free : Addr → Prop}
    (h : va_Run5 p l e R s m args below meth c H locs cells slots mc ms g rest Qa free) : Rn_ 5 p l e R s m args below meth c H locs cells slots mc ms g rest Qa Xa free := fun T hT X => Or.inl (h T hT X)
theorem Ct_.vm {m' : mt_} {av : List Value} {h h1 : hp_} {o : o_} (hH : mH m' = []) (hC : Ct_ G m' av h o h1) : vy_Met (gl G) (mY m') (ws_ (mY m') (mB m') (mL m') (mR m')) (rmO m' h h1) (va_Pc av (fun U => En G U ∧ Rep G h U U.heap)) (QcO G o h1) (XcO G o h1) (hsz h1 - hsz h) (hsl h1 - hsl h) (gA G) := by
  unfold Ct_ at hC
  rw [mW_nil hH] at hC
  exact hC
theorem roomO {m' : mt_} {R : Room} (hF : mF m' + 1 ≤ R.frames) (hO : 19 + mL m' + mO m' ≤ R.locals) (h h1 : hp_) : (rmO m' h h1).frames + 1 ≤ R.frames ∧ 8 + (mL m' + 11) + (rmO m' h h1).locals ≤ R.locals := ⟨hF, by show 8 + (mL m' + 11) + mO m' ≤ _; omega⟩
theorem preV {s : State} {H : Heap} {h : hp_} {b ci : Nat} {as : List Value} {q : vw_C} (en : En G s) (rp : Rep G h s H) (hc : cls_at h b = some ci) (hq : cls_[ci]? = some q) : PreV s H q.1 b (va_Pc (.ref b :: as) (fun U => En G U ∧ Rep G h U U.heap)) as :=
  ⟨pre_bl _ h, recv_at en rp hc hq, pre_U en rp _⟩
theorem stk (b : Nat) (as r : List Value) : (Value.ref b :: as).reverse ++ r = as.reverse ++ .ref b :: r := by simp
variable {m' : mt_} {i n ci : Nat} {q : vw_C}
/-- what of the callee's rooms and descriptor is asked -/
def cokD (m m' : mt_) (n : Nat) : Prop := ((mY m').cls ≠ "java/lang/invoke/MethodHandle" ∧ (mY m').cls ≠ "java/lang/invoke/VarHandle" ∧ (parseMethodDescriptor (mY m').desc).map (fun d => d.parameters.length) = some n) ∧ mF m' + 1 ≤ mF m ∧ 19 + mL m' + mO m' ≤ mO m ∧ mH m' = []
theorem run_V (hd : decode (mB m) pc = .ok (.invokevirtual i, 3)) (hq : cls_[ci]? = some q) (h1 : Cond.methodLink (mY m).cls i (mY m') ∈ lw_all) (h2 : Cond.instanceMethod (mY m') ∈ lw_all) (h3 : Cond.selects q.1 (mY m') (mY m') ∈ lw_all) (h4 : Cond.initialized q.1 ∈ lw_all) (h5 : Cond.code (mY m') (mB m') (mL m') (mR m') ∈ lw_all) (hc : (mY m').cls = q.1) (hk : cokD m m' n) : RunOK G m pc 3 (n + 1) m' true (some ci) := by
  intro av r L h p e R s mi args below meth c H locs cells slots ls hn h8 hrc cx lr rp o hh1 ho hC hroom
  obtain ⟨b, as, rfl, hcl⟩ := hrc
  obtain ⟨hd2, hF, hO, hH⟩ := hk
  rw [stk]
  exact vy_runV (As := as) cx.fix (hC.vm hH) (cwV n cx.ws (lw_V h1 h2 h3 h4 h5) rfl rfl rfl ⟨hc, hd2⟩ (roomO (by rw [cx.fr]; exact hF) (by rw [cx.lo]; exact hO) h hh1)) (preV cx.en rp hcl hq) rfl (by simpa using hn) lr.1 rfl (lv_room h8) hd hroom
theorem run_S (hd : decode (mB m) pc = .ok (.invokestatic i, 3)) (h1 : Cond.methodLink (mY m).cls i (mY m') ∈ lw_all) (h2 : Cond.static (mY m') ∈ lw_all) (h3 : Cond.initialized (mY m').cls ∈ lw_all) (h5 : Cond.code (mY m') (mB m') (mL m') (mR m') ∈ lw_all) (hk : cokD m m' n) : RunOK G m pc 3 n m' true none := by
  intro av r L h p e R s mi args below meth c H locs cells slots ls hn h8 hrc cx lr rp o hh1 ho hC hroom
  obtain ⟨hd2, hF, hO, hH⟩ := hk
  exact vy_runS (As := av) cx.fix (hC.vm hH) (va_cwS n cx.ws (lw_S h1 h2 h3 h5) rfl rfl rfl hd2 (roomO (by rw [cx.fr]; exact hF) (by rw [cx.lo]; exact hO) h hh1)) ⟨pre_bl _ h, pre_U cx.en rp _⟩ rfl hn lr.1 rfl (lv_room h8) hd hroom
/-- a constructor -/
def rcI : Option Nat := none
theorem run_I (hd : decode (mB m) pc = .ok (.invokespecial i, 3)) (h1 : Cond.methodLink (mY m).cls i (mY m') ∈ lw_all) (h2 : Cond.instanceMethod (mY m') ∈ lw_all) (h3 : Cond.initialized (mY m').cls ∈ lw_all) (h5 : Cond.code (mY m') (mB m') (mL m') none ∈ lw_all) (hr : mR m' = none) (hy : (mY m').name = "<init>") (hk : cokD m m' n) (hci : cls_[ci]? = some q) : RunOK G m pc 3 (n + 1) m' false (some ci) := by
  intro av r L h p e R s mi args below meth c H locs cells slots ls hn h8 hrc cx lr rp o hh1 ho hC hroom
  obtain ⟨b, as, rfl, hcl⟩ := hrc
  obtain ⟨hd2, hF, hO, hH⟩ := hk
  rw [stk]
  have hM := hC.met hH (ho rfl)
  rw [hr] at hM
  exact Rn_.of3 (va_runI (As := as) cx.fix hM (cwI n cx.ws (lw_meth h5) rfl rfl rfl (cx.ws _ h3) (cx.ws _ h1) (cx.ws _ h2) hy hd2 (roomO (by rw [cx.fr]; exact hF) (by rw [cx.lo]; exact hO) h hh1)) ⟨pre_bl _ h, pre_U cx.en rp _⟩ rfl (by simpa using hn) lr.1 rfl (lv_room h8) hd hroom)
theorem run_VN {host : String} (hd : decode (mB m) pc = .ok (.invokevirtual i, 3)) (hq : cls_[ci]? = some q) (h1 : Cond.methodLinkNest (mY m).cls i (mY m') host ∈ lw_tbl) (h2 : Cond.instanceMethod (mY m') ∈ lw_all) (h3 : Cond.selects q.1 (mY m') (mY m') ∈ lw_all) (h4 : Cond.initialized (mY m').cls ∈ lw_all) (h5 : Cond.code (mY m') (mB m') (mL m') (mR m') ∈ lw_all) (hk : cokD m m' n) : RunOK G m pc 3 (n + 1) m' true (some ci) := by
  intro av r L h p e R s mi args below meth c H locs cells slots ls hn h8 hrc cx lr rp o hh1 ho hC hroom
  obtain ⟨b, as, rfl, hcl⟩ := hrc
  obtain ⟨hd2, hF, hO, hH⟩ := hk
  rw [stk]
  exact vy_runVN (As := as) cx.fix (hC.vm hH) ⟨va_cnB n cx.ws (lw_meth h5) rfl rfl rfl (cx.en.2.1 _ h1 rfl) (cx.ws _ h4) hd2 (roomO (by rw [cx.fr]; exact hF) (by rw [cx.lo]; exact hO) h hh1), cx.ws _ h2, cx.ws _ h3⟩ (preV cx.en rp hcl hq) rfl (by simpa using hn) lr.1 rfl (lv_room h8) hd hroom
theorem run_SN {host : String} (hd : decode (mB m) pc = .ok (.invokestatic i, 3)) (h1 : Cond.methodLinkNest (mY m).cls i (mY m') host ∈ lw_tbl) (h2 : Cond.static (mY m') ∈ lw_all) (h4 : Cond.initialized (mY m').cls ∈ lw_all) (h5 : Cond.code (mY m') (mB m') (mL m') (mR m') ∈ lw_all) (hk : cokD m m' n) : RunOK G m pc 3 n m' true none := by
  intro av r L h p e R s mi args below meth c H locs cells slots ls hn h8 hrc cx lr rp o hh1 ho hC hroom
  obtain ⟨hd2, hF, hO, hH⟩ := hk
  exact vy_runSN (As := av) cx.fix (hC.vm hH) ⟨va_cnB n cx.ws (lw_meth h5) rfl rfl rfl (cx.en.2.1 _ h1 rfl) (cx.ws _ h4) hd2 (roomO (by rw [cx.fr]; exact hF) (by rw [cx.lo]; exact hO) h hh1), cx.ws _ h2, trivial⟩ ⟨pre_bl _ h, pre_U cx.en rp _⟩ rfl hn lr.1 rfl (lv_room h8) hd hroom
theorem run_IN {host : String} (hd : decode (mB m) pc = .ok (.invokespecial i, 3)) (h1 : Cond.methodLinkNest (mY m).cls i (mY m') host ∈ lw_tbl) (h2 : Cond.instanceMethod (mY m') ∈ lw_all) (h4 : Cond.initialized (mY m').cls ∈ lw_all) (h5 : Cond.code (mY m') (mB m') (mL m') none ∈ lw_all) (hr : mR m' = none) (hy : (mY m').name = "<init>") (hk : cokD m m' n) (hci : cls_[ci]? = some q) : RunOK G m pc 3 (n + 1) m' false (some ci) := by
  intro av r L h p e R s mi args below meth c H locs cells slots ls hn h8 hrc cx lr rp o hh1 ho hC hroom
  obtain ⟨b, as, rfl, hcl⟩ := hrc
  obtain ⟨hd2, hF, hO, hH⟩ := hk
  rw [stk]
  have hM := hC.met hH (ho rfl)
  rw [hr] at hM
  exact Rn_.of3 (va_runIN (As := as) cx.fix hM ⟨va_cnB n cx.ws (lw_meth h5) rfl rfl rfl (cx.en.2.1 _ h1 rfl) (cx.ws _ h4) hd2 (roomO (by rw [cx.fr]; exact hF) (by rw [cx.lo]; exact hO) h hh1), hy, cx.ws _ h2⟩ ⟨pre_bl _ h, pre_U cx.en rp _⟩ rfl (by simpa using hn) lr.1 rfl (lv_room h8) hd hroom)
theorem good5 {a b c d e : Cond} {ws : List Cond} (ha : a ∈ lw_all) (hb : b ∈ lw_all) (hc : c ∈ lw_all) (hd : d ∈ lw_all) (he : e ∈ lw_all) (hw : GoodIn lw_all ws) : GoodIn lw_all ([a, b, c, d, e] ++ ws) :=
  lw_app (List.forall_mem_cons.mpr ⟨ha, List.forall_mem_cons.mpr ⟨hb, List.forall_mem_cons.mpr ⟨hc, List.forall_mem_cons.mpr ⟨hd, List.forall_mem_cons.mpr ⟨he, fun _ h => nomatch h⟩⟩⟩⟩⟩) hw
/-- a method found up from the receiver's class, by the name x -/
theorem run_U {x : MethodName} {owner : String} (hd : decode (mB m) pc = .ok (.invokevirtual i, 3)) (hq : cls_[ci]? = some q) (h1 : Cond.methodLink (mY m).cls i x ∈ lw_all) (hsm : Cond.sameMethod x.cls owner x.name x.desc ∈ lw_all) (h3 : Cond.selects q.1 x (mY m') ∈ lw_all) (h2 : Cond.instanceMethod (mY m') ∈ lw_all) (h4 : Cond.initialized (mY m').cls ∈ lw_all) (h5 : Cond.code (mY m') (mB m') (mL m') (mR m') ∈ lw_all) (hyx : mY m' = ⟨owner, x.name, x.desc⟩) (hk : cokD m m' n) (hd9 : owner ≠ "java/lang/invoke/MethodHandle" ∧ owner ≠ "java/lang/invoke/VarHandle" ∧ (parseMethodDescriptor x.desc).map (fun d => d.parameters.length) = some n) : RunOK G m pc 3 (n + 1) m' false (some ci) := by
  intro av r L h p e R s mi args below meth c H locs cells slots ls hn h8 hrc cx lr rp o hh1 ho hC hroom
  obtain ⟨b, as, rfl, hcl⟩ := hrc
  obtain ⟨hd2, hF, hO, hH⟩ := hk
  rw [stk]
  exact Rn_.of3 (va_runU (As := as) cx.fix (hC.met hH (ho rfl)) (va_cwU n cx.ws (good5 h1 hsm h3 h2 h4 (lw_meth h5)) rfl rfl rfl hyx hd9 (roomO (by rw [cx.fr]; exact hF) (by rw [cx.lo]; exact hO) h hh1)) (preV cx.en rp hcl hq) rfl (by simpa using hn) lr.1 rfl (lv_room h8) hd hroom)
/-- .. overridden there -/
theorem run_O {x : MethodName} {owner : String} {b0 : ByteArray} {m0 : Nat} {r0 : Option FieldType} (hd : decode (mB m) pc = .ok (.invokevirtual i, 3)) (hq : cls_[ci]? = some q) (h1 : Cond.methodLink (mY m).cls i x ∈ lw_all) (hsm : Cond.sameMethod x.cls owner x.name x.desc ∈ lw_all) (hio : Cond.instanceMethod ⟨owner, x.name, x.desc⟩ ∈ lw_all) (h3 : Cond.selects q.1 x (mY m') ∈ lw_all) (h2 : Cond.instanceMethod (mY m') ∈ lw_all) (h4 : Cond.initialized (mY m').cls ∈ lw_all) (h5 : Cond.code (mY m') (mB m') (mL m') (mR m') ∈ lw_all) (h0 : Cond.code ⟨owner, x.name, x.desc⟩ b0 m0 r0 ∈ lw_all) (hk : cokD m m' n) (hd9 : owner ≠ "java/lang/invoke/MethodHandle" ∧ owner ≠ "java/lang/invoke/VarHandle" ∧ (parseMethodDescriptor x.desc).map (fun d => d.parameters.length) = some n) : RunOK G m pc 3 (n + 1) m' false (some ci) := by
  intro av r L h p e R s mi args below meth c H locs cells slots ls hn h8 hrc cx lr rp o hh1 ho hC hroom
  obtain ⟨b, as, rfl, hcl⟩ := hrc
  obtain ⟨hd2, hF, hO, hH⟩ := hk
  rw [stk]
  have hg : GoodIn lw_all (va_wsO (mY m).cls i q.1 owner x (mY m') (ws_ (mY m') (mB m') (mL m') (mR m'))) :=
    lw_app (List.forall_mem_cons.mpr ⟨h1, List.forall_mem_cons.mpr ⟨hsm, List.forall_mem_cons.mpr ⟨hio, List.forall_mem_cons.mpr ⟨h3, List.forall_mem_cons.mpr ⟨h2, List.forall_mem_cons.mpr ⟨h4, fun _ h => nomatch h⟩⟩⟩⟩⟩⟩) (lw_meth h5)
  exact Rn_.of3 (va_runU (As := as) cx.fix (hC.met hH (ho rfl)) (va_cwO n cx.ws hg rfl rfl rfl h0 hd9 (roomO (by rw [cx.fr]; exact hF) (by rw [cx.lo]; exact hO) h hh1)) (preV cx.en rp hcl hq) rfl (by simpa using hn) lr.1 rfl (lv_room h8) hd hroom)
/-- super.m(..) -/
theorem run_SU (hd : decode (mB m) pc = .ok (.invokespecial i, 3)) (hq : cls_[ci]? = some q) (h1 : Cond.methodLink (mY m).cls i (mY m') ∈ lw_all) (hsm : Cond.sameMethod (mY m').cls (mY m').cls (mY m').name (mY m').desc ∈ lw_all) (hsu : Cond.superclass (mY m).cls (mY m').cls ∈ lw_all) (h2 : Cond.instanceMethod (mY m') ∈ lw_all) (h4 : Cond.initialized (mY m').cls ∈ lw_all) (h5 : Cond.code (mY m') (mB m') (mL m') (mR m') ∈ lw_all) (hy : (mY m').name ≠ "<init>") (hk : cokD m m' n) : RunOK G m pc 3 (n + 1) m' false (some ci) := by
  intro av r L h p e R s mi args below meth c H locs cells slots ls hn h8 hrc cx lr rp o hh1 ho hC hroom
  obtain ⟨b, as, rfl, hcl⟩ := hrc
  obtain ⟨hd2, hF, hO, hH⟩ := hk
  rw [stk]
  exact Rn_.of3 (va_runSU (As := as) (cx.en.1.1 ci q hq).2 cx.fix (hC.met hH (ho rfl)) (va_cwSU n cx.ws (good5 h1 hsm hsu h2 h4 (lw_meth h5)) rfl rfl rfl ⟨hy, hd2.2.2⟩ (roomO (by rw [cx.fr]; exact hF) (by rw [cx.lo]; exact hO) h hh1)) (preV cx.en rp hcl hq) rfl (by simpa using hn) lr.1 rfl (lv_room h8) hd hroom)
/-- by an interface -/
theorem run_F {x : MethodName} {cnt : Nat} (hd : decode (mB m) pc = .ok (.invokeinterface i cnt, 5)) (hq : cls_[ci]? = some q) (h1 : Cond.methodLink (mY m).cls i x ∈ lw_all) (h3 : Cond.selects q.1 x (mY m') ∈ lw_all) (h2 : Cond.instanceMethod (mY m') ∈ lw_all) (h4 : Cond.initialized (mY m').cls ∈ lw_all) (h5 : Cond.code (mY m') (mB m') (mL m') (mR m') ∈ lw_all)
    (f1 : Cond.declares x ∈ lw_tbl) (f2 : Cond.interfaceMethod x.cls x.cls x.name x.desc ∈ lw_tbl) (f3 : Cond.publicMethod (mY m') ∈ lw_tbl) (f4 : Cond.unhidden q.1 x.name x.desc ∈ lw_tbl) (f5 : Cond.castable q.1 x.cls ∈ lw_tbl) (hf2 : okT_ (Cond.interfaceMethod x.cls x.cls x.name x.desc) = true) (hk : cokD m m' n)
    (hd9 : x.cls ≠ "java/lang/invoke/MethodHandle" ∧ x.cls ≠ "java/lang/invoke/VarHandle" ∧ (parseMethodDescriptor x.desc).map (fun d => d.parameters.length) = some n) : RunOK G m pc 5 (n + 1) m' false (some ci) := by
  intro av r L h p e R s mi args below meth c H locs cells slots ls hn h8 hrc cx lr rp o hh1 ho hC hroom
  obtain ⟨b, as, rfl, hcl⟩ := hrc
  obtain ⟨hd2, hF, hO, hH⟩ := hk
  rw [stk]
  have hg : GoodIn lw_all (va_wsF (mY m).cls i q.1 x (mY m') (ws_ (mY m') (mB m') (mL m') (mR m'))) :=
    lw_app (List.forall_mem_cons.mpr ⟨h1, List.forall_mem_cons.mpr ⟨h3, List.forall_mem_cons.mpr ⟨h2, List.forall_mem_cons.mpr ⟨h4, fun _ h => nomatch h⟩⟩⟩⟩) (lw_meth h5)
  exact Rn_.of5 (va_runF (As := as) (cx.en.1.1 ci q hq).2 cx.fix (hC.met hH (ho rfl)) (va_cwF n cx.ws hg rfl rfl rfl ⟨cx.en.2.1 _ f1 rfl, cx.en.2.1 _ f2 hf2, cx.en.2.1 _ f3 rfl, cx.en.2.1 _ f4 rfl, cx.en.2.1 _ f5 rfl⟩ hd9 (roomO (by rw [cx.fr]; exact hF) (by rw [cx.lo]; exact hO) h hh1)) (preV cx.en rp hcl hq) rfl (by simpa using hn) lr.1 rfl (lv_room h8) hd hroom)
end CALLS7
