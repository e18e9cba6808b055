/-! BASE 4: the instructions that read and write the heap -/
set_option maxRecDepth 100000
def ix_ (i : Int32) (n : Nat) : Option Nat := if 0 ≤ i.toInt ∧ i.toInt < n then some i.toInt.toNat else none
theorem ix_in {i : Int32} {n j : Nat} (h : ix_ i n = some j) : vp_in i n ∧ i.toNatClampNeg = j ∧ j < n := by
  unfold ix_ at h
  split at h
  · next hc =>
    cases h
    exact ⟨vp_in_iff.mpr hc, rfl, by omega⟩
  · cases h
theorem ix_nI {j n : Nat} (h : j < n) (hn : n ≤ 2 ^ 31) : ix_ (nI j) n = some j := by
  unfold ix_
  rw [nI_toInt (by omega), if_pos ⟨by omega, by omega⟩]
  rfl
/-- the class of the object at an address, by number -/
def cls_at (h : hp_) (a : Nat) : Option Nat := match hget h a with
  | some (.inr (.inr (c, _))) => some c
  | _ => none
theorem cls_at_of {h : hp_} {a c : Nat} {fs : List Value} (hg : hget h a = some (eO c fs)) : cls_at h a = some c := by
  unfold cls_at; rw [hg]
theorem of_cls_at {h : hp_} {a c : Nat} (hc : cls_at h a = some c) : ∃ fs, hget h a = some (eO c fs) := by
  unfold cls_at at hc
  split at hc
  · next c' fs hg =>
    cases hc
    exact ⟨fs, hg⟩
  · cases hc
/-- a field by its place in each class that has it -/
def gf (cs : List (Nat × Nat)) (h : hp_) (a : Nat) : Option Value := match hget h a with
  | some (.inr (.inr (c, fs))) => match cs.lookup c with
    | some j => fs[j]?
    | none => none
  | _ => none
def pf (cs : List (Nat × Nat)) (h : hp_) (a : Nat) (v : Value) : Option hp_ := match hget h a with
  | some (.inr (.inr (c, fs))) => match cs.lookup c with
    | some j => match fs[j]? with
      | some _ => some (hset h a (eO c (fs.set j v)))
      | none => none
    | none => none
  | _ => none
theorem gf_of {cs : List (Nat × Nat)} {h : hp_} {a c : Nat} {fs : List Value} (hg : hget h a = some (eO c fs)) {j : Nat} (hj : cs.lookup c = some j) : gf cs h a = fs[j]? := by
  unfold gf; rw [hg]; dsimp only; rw [hj]
theorem pf_of {cs : List (Nat × Nat)} {h : hp_} {a c : Nat} {fs : List Value} (hg : hget h a = some (eO c fs)) {j : Nat} (hj : cs.lookup c = some j) (hl : j < fs.length) (v : Value) : pf cs h a v = some (hset h a (eO c (fs.set j v))) := by
  unfold pf; rw [hg]; dsimp only; rw [hj]; dsimp only; rw [List.getElem?_eq_getElem hl]
theorem of_gf {cs : List (Nat × Nat)} {h : hp_} {a : Nat} {v : Value} (hv : gf cs h a = some v) : ∃ c fs j, hget h a = some (eO c fs) ∧ cs.lookup c = some j ∧ fs[j]? = some v := by
  unfold gf at hv
  split at hv
  · next c fs hg =>
    split at hv
    · next j hj => exact ⟨c, fs, j, hg, hj, hv⟩
    · cases hv
  · cases hv
theorem of_pf {cs : List (Nat × Nat)} {h h1 : hp_} {a : Nat} {v : Value} (hv : pf cs h a v = some h1) : ∃ c fs j, hget h a = some (eO c fs) ∧ cs.lookup c = some j ∧ j < fs.length ∧ h1 = hset h a (eO c (fs.set j v)) := by
  unfold pf at hv
  split at hv
  · next c fs hg =>
    split at hv
    · next j hj =>
      split at hv
      · next x hx => exact ⟨c, fs, j, hg, hj, (List.getElem?_eq_some_iff.mp hx).1, (Option.some.inj hv).symm⟩
      · cases hv
    · cases hv
  · cases hv
def alen_ (h : hp_) (a : Nat) : Option Nat := match hget h a with
  | some (.inl (_, n, _)) => some n
  | some (.inr (.inl (n, _))) => some n
  | _ => none
/-- something that an array of Objects may hold -/
def obk (h : hp_) (b : Nat) : Prop := (∃ c fs, hget h b = some (eO c fs) ∧ c < 15) ∨ ∃ n f, hget h b = some (eI n f)
def asO : Value → Option Nat
  | .ref a => some a
  | _ => none
theorem asO_rf (w : Option Nat) : asO (va_rf w) = w := by cases w <;> rfl
def s_getf (cs : List (Nat × Nat)) (nx : Nat) : sem_ := fun L st h _ k => match st with
  | .ref a :: r => ∃ v, gf cs h a = some v ∧ k nx L (v :: r) h
  | _ => False
def s_puti (cs : List (Nat × Nat)) (nx : Nat) : sem_ := fun L st h _ k => match st with
  | .int x :: .ref a :: r => ∃ h1, pf cs h a (.int x) = some h1 ∧ k nx L r h1
  | _ => False
/-- a field of a small type -/
def s_putz (ty : FieldType) (cs : List (Nat × Nat)) (nx : Nat) : sem_ := fun L st h _ k => match st with
  | .int x :: .ref a :: r => (narrow ty (.int x) = .int x ∧ fits ty (.int x) = true) ∧ ∃ h1, pf cs h a (.int x) = some h1 ∧ k nx L r h1
  | _ => False
def s_putr (cs : List (Nat × Nat)) (nx : Nat) : sem_ := fun L st h _ k => match st with
  | v :: .ref a :: r => rvk v (∃ h1, pf cs h a v = some h1 ∧ k nx L r h1)
  | _ => False
def s_new (c : Nat) (fs : List Value) (n nx : Nat) : sem_ := fun L st h _ k => k nx L (.ref (hsz h) :: st) (hnew h (eO c fs) n)
def s_newi (nx : Nat) : sem_ := fun L st h _ k => match st with
  | .int x :: r => ∃ n, x = nI n ∧ n ≤ 100000 ∧ k nx L (.ref (hsz h) :: r) (hnew h (eI n (fun _ => 0)) n)
  | _ => False
def s_newb (nx : Nat) : sem_ := fun L st h _ k => match st with
  | .int x :: r => ∃ n, x = nI n ∧ n ≤ 100000 ∧ k nx L (.ref (hsz h) :: r) (hnew h (eB n (fun _ => 0)) n)
  | _ => False
def s_newr (nx : Nat) : sem_ := fun L st h _ k => match st with
  | .int x :: r => ∃ n, x = nI n ∧ n ≤ 100000 ∧ k nx L (.ref (hsz h) :: r) (hnew h (eR n (fun _ => none)) n)
  | _ => False
def s_iald (nx : Nat) : sem_ := fun L st h _ k => match st with
  | .int i :: .ref a :: r => ∃ n f j, hget h a = some (eI n f) ∧ ix_ i n = some j ∧ k nx L (.int (f j) :: r) h
  | _ => False
def s_bald (nx : Nat) : sem_ := fun L st h _ k => match st with
  | .int i :: .ref a :: r => ∃ n f j, hget h a = some (eB n f) ∧ ix_ i n = some j ∧ k nx L (.int (f j) :: r) h
  | _ => False
def s_aald (nx : Nat) : sem_ := fun L st h _ k => match st with
  | .int i :: .ref a :: r => ∃ n f j, hget h a = some (eR n f) ∧ ix_ i n = some j ∧ ((f j = none ∧ k nx L (.null :: r) h) ∨ ∃ b, f j = some b ∧ k nx L (.ref b :: r) h)
  | _ => False
def s_iast (nx : Nat) : sem_ := fun L st h _ k => match st with
  | .int x :: .int i :: .ref a :: r => ∃ n f j, hget h a = some (eI n f) ∧ ix_ i n = some j ∧ k nx L r (hset h a (eI n (upd f j x)))
  | _ => False
def s_bast (nx : Nat) : sem_ := fun L st h _ k => match st with
  | .int x :: .int i :: .ref a :: r => ∃ n f j, hget h a = some (eB n f) ∧ ix_ i n = some j ∧ k nx L r (hset h a (eB n (upd f j x.toInt8.toInt32)))
  | _ => False
def s_aast (nx : Nat) : sem_ := fun L st h _ k => match st with
  | v :: .int i :: .ref a :: r => rvk v ((∀ b, v = .ref b → obk h b) ∧ ∃ n f j, hget h a = some (eR n f) ∧ ix_ i n = some j ∧ k nx L r (hset h a (eR n (va_up f j (asO v)))))
  | _ => False
def s_alen (nx : Nat) : sem_ := fun L st h _ k => match st with
  | .ref a :: r => ∃ n, alen_ h a = some n ∧ k nx L (.int (nI n) :: r) h
  | _ => False
def s_castO (cs : List Nat) (nx : Nat) : sem_ := fun L st h _ k => match st with
  | .ref a :: r => ∃ c, cls_at h a = some c ∧ c ∈ cs ∧ k nx L (.ref a :: r) h
  | _ => False
def s_castI (nx : Nat) : sem_ := fun L st h _ k => match st with
  | .ref a :: r => ∃ n f, hget h a = some (eI n f) ∧ k nx L (.ref a :: r) h
  | _ => False
def s_castR (nx : Nat) : sem_ := fun L st h _ k => match st with
  | .ref a :: r => ∃ n f, hget h a = some (eR n f) ∧ n ≠ 0 ∧ k nx L (.ref a :: r) h
  | _ => False
/-- a class's row: what the kit asks of it -/
def clOK (q : vw_C) : Prop := (∀ w ∈ u_ws q.1 q.2.1 q.2.2, w ∈ lw_all) ∧ (∃ ty : Nat → FieldType, ∀ k, k < q.2.2 → parseFieldDescriptor (q.2.1 k).2.2.1 = some (ty k)) ∧ (∀ a, a < q.2.2 → ∀ b, b < q.2.2 → a ≠ b → (q.2.1 a).2.1 ≠ (q.2.1 b).2.1) ∧ Cond.castable q.1 "java/lang/Object" ∈ lw_tbl
theorem cls_ok : ∀ (c : Nat) (q : vw_C), cls_[c]? = some q → clOK q := by
  intro c q hq
  match c, hq with
  | 0, hq => cases hq; exact ⟨in_X0, ⟨tyX0, tyX0_ok⟩, nmX0, q1471⟩
  | 1, hq => cases hq; exact ⟨in_X1, ⟨tyX1, tyX1_ok⟩, nmX1, q1472⟩
  | 2, hq => cases hq; exact ⟨in_X2, ⟨tyX2, tyX2_ok⟩, nmX2, q1473⟩
  | 3, hq => cases hq; exact ⟨in_X3, ⟨tyX3, tyX3_ok⟩, nmX3, q1477⟩
  | 4, hq => cases hq; exact ⟨in_X4, ⟨tyX4, tyX4_ok⟩, nmX4, q1478⟩
  | 5, hq => cases hq; exact ⟨in_X5, ⟨tyX5, tyX5_ok⟩, nmX5, q1480⟩
  | 6, hq => cases hq; exact ⟨in_X6, ⟨tyX6, tyX6_ok⟩, nmX6, q1482⟩
  | 7, hq => cases hq; exact ⟨in_X7, ⟨tyX7, tyX7_ok⟩, nmX7, q1481⟩
  | 8, hq => cases hq; exact ⟨in_X8, ⟨tyX8, tyX8_ok⟩, nmX8, q1483⟩
  | 9, hq => cases hq; exact ⟨in9_, ⟨fun _ => .int, fun _ _ => (by decide +kernel : parseFieldDescriptor "I" = some .int)⟩, fun a ha b hb hne => absurd (show a = b by have h1 : a < 1 := ha; have h2 : b < 1 := hb; omega) hne, q1484⟩
  | 10, hq => cases hq; exact ⟨in_X10, ⟨tyX10, tyX10_ok⟩, nmX10, q1485⟩
  | 11, hq => cases hq; exact ⟨in_J2, ⟨tyJ2, tyJ2_ok⟩, nmJ2, q1474⟩
  | 12, hq => cases hq; exact ⟨in_J3, ⟨tyJ3, tyJ3_ok⟩, nmJ3, q1475⟩
  | 13, hq => cases hq; exact ⟨in_J5, ⟨tyJ5, tyJ5_ok⟩, nmJ5, q1476⟩
  | 14, hq => cases hq; exact ⟨in_J13, ⟨tyJ13, tyJ13_ok⟩, nmJ13, q1479⟩
  | n + 15, hq => simp at hq
theorem S_rf {G : g_} {H : Heap} {locs : List Loc} (hl : ∀ q ∈ locs, gA G q.base) : va_S (gA G) H H locs := ⟨Nat.le_refl _, fun _ _ _ => rfl, hl⟩
section OK4
variable {G : g_} {m : mt_} {pc : Nat}
/-- where a field stands in each class of a list -/
def fdOK (own : String) (idx : Nat) (cs : List (Nat × Nat)) : Prop := ∀ c j, cs.lookup c = some j → ∃ q : vw_C, cls_[c]? = some q ∧ j < q.2.2 ∧ ∃ ref, (∀ (G : g_) (s : State) (args : Array Value), En G s → (∀ w ∈ lw_all, w.before args s = true) → (Cond.fieldLink own idx ref (q.2.1 j).2.1 (q.2.1 j).2.2.1).before args s = true ∧ (∀ x, s.fieldFound? (q.2.1 j).1 (q.2.1 j).2.1 (q.2.1 j).2.2.1 = some x → s.fieldFound? ref (q.2.1 j).2.1 (q.2.1 j).2.2.1 = some x))
end OK4
section OK4
variable {G : g_} {m : mt_} {pc : Nat}
/-- a field: where it stands in each class of the list -/
def fdOf (cs : List (Nat × Nat)) (decl n d : String) (fin : Bool) : Prop := ∀ q ∈ cs, ∃ r : vw_C, cls_[q.1]? = some r ∧ q.2 < r.2.2 ∧ r.2.1 q.2 = (decl, n, d, fin)
theorem lookup_mem {cs : List (Nat × Nat)} {c j : Nat} (h : cs.lookup c = some j) : (c, j) ∈ cs := by
  induction cs with
  | nil => cases h
  | cons a t ih =>
    obtain ⟨x, y⟩ := a
    rw [List.lookup_cons] at h
    cases hx : c == x with
    | true =>
      rw [hx] at h
      cases h
      rw [eq_of_beq hx]
      exact List.mem_cons_self
    | false =>
      rw [hx] at h
      exact List.mem_cons_of_mem _ (ih h)
theorem getf_core {cs : List (Nat × Nat)} {decl ref n d : String} {fin : Bool} {i nx : Nat} (hf : fdOf cs decl n d fin)
    (hS : ∀ {p : Program} {e : Env} {R : Room} {s : State} {mi : MethodId} {args : Array Value} {below : List Frame} {meth : Method} {c : Code} {H : Heap} {locs : List Loc} {cells slots : Nat} {ls : Array Slot} {Qf : State → Prop} {ws : va_W} {q0 a ci : Nat} {fs : List Value} {C : String} {T : u_T} {N k : Nat} {v : Value} {r : List Value},
      Cx G m p R s mi args meth c → va_P (gD G) cls_ ws H → ws[q0]? = some (a, .inr (ci, fs)) → cls_[ci]? = some (C, T, N) → (∀ w ∈ u_ws C T N, w ∈ lw_all) → k < N → T k = (decl, n, d, fin) → fs[k]? = some v →
      W p (gl G) e R s mi args below meth c H locs cells slots Qf (F0 mi nx ls (v :: r)) → W p (gl G) e R s mi args below meth c H locs cells slots Qf (F0 mi pc ls (.ref a :: r))) : SemOK G m pc (s_getf cs nx) := by
  intro L st h Q k hs hk
  unfold s_getf at hs
  split at hs
  · next a r =>
    obtain ⟨v, hv, hs⟩ := hs
    obtain ⟨c, fs, j, hg, hj, hv⟩ := of_gf hv
    obtain ⟨q, hq1, hq2, hq3⟩ := hf _ (lookup_mem hj)
    refine Go_.pure0 (fun cx _ rp kk => ?_) (hk _ _ _ _ hs)
    obtain ⟨q0, hq0⟩ := wsOf_get rp hg (fun f => by simp)
    exact hS (C := q.1) (T := q.2.1) (N := q.2.2) cx rp.ws hq0 hq1 (cls_ok c q hq1).1 hq2 hq3 hv kk
  · exact hs.elim
theorem o_getf {cs : List (Nat × Nat)} {decl n d : String} {fin : Bool} {i : Nat} (hd : decode (mB m) pc = .ok (.getfield i, 3)) (hf : fdOf cs decl n d fin) (hl : Cond.fieldLink (mY m).cls i decl n d ∈ lw_all) : SemOK G m pc (s_getf cs (pc + 3)) :=
  getf_core (ref := decl) (i := i) hf fun cx hP he hc hin hk hT hv kk => va_get (ref := decl) cx.ex cx.cb cx.ws hin cx.ow cx.en.1 hP _ he hc _ hk (by rw [hT]; exact cx.ws _ hl) (by rw [hT]; exact fun _ h => h) hv hd kk
theorem o_getfS {cs : List (Nat × Nat)} {decl ref n d : String} {fin : Bool} {i : Nat} (hd : decode (mB m) pc = .ok (.getfield i, 3)) (hf : fdOf cs decl n d fin) (hl : Cond.fieldLink (mY m).cls i ref n d ∈ lw_all) (hsm : Cond.sameField ref decl n d ∈ lw_all) : SemOK G m pc (s_getf cs (pc + 3)) :=
  getf_core (ref := ref) (i := i) hf fun cx hP he hc hin hk hT hv kk => va_get (ref := ref) cx.ex cx.cb cx.ws hin cx.ow cx.en.1 hP _ he hc _ hk (by rw [hT]; exact cx.ws _ hl) (by rw [hT]; exact u_same (cx.ws _ hsm)) hv hd kk
theorem o_getfN {cs : List (Nat × Nat)} {decl n d host : String} {fin : Bool} {i : Nat} (hd : decode (mB m) pc = .ok (.getfield i, 3)) (hf : fdOf cs decl n d fin) (hl : Cond.fieldLinkNest (mY m).cls i decl n d host ∈ lw_tbl) : SemOK G m pc (s_getf cs (pc + 3)) :=
  getf_core (ref := decl) (i := i) hf fun cx hP he hc hin hk hT hv kk => va_getN (ref := decl) (host := host) cx.ex cx.cb cx.ws hin cx.ow cx.en.1 hP _ he hc _ hk (by rw [hT]; exact cx.en.use hl rfl) (by rw [hT]; exact fun _ h => h) hv hd kk
theorem SemOK.mono {f g : sem_} (h : SemOK G m pc f) (hi : ∀ L st h Q k, g L st h Q k → f L st h Q k) : SemOK G m pc g := fun L st h0 Q k hs hk => h L st h0 Q k (hi _ _ _ _ _ hs) hk
/-- .. of an int, of a reference that isn't null, of one that may be -/
def s_getfi (cs : List (Nat × Nat)) (nx : Nat) : sem_ := fun L st h _ k => match st with
  | .ref a :: r => ∃ x, gf cs h a = some (.int x) ∧ k nx L (.int x :: r) h
  | _ => False
def s_getfr (cs : List (Nat × Nat)) (nx : Nat) : sem_ := fun L st h _ k => match st with
  | .ref a :: r => ∃ b, gf cs h a = some (.ref b) ∧ k nx L (.ref b :: r) h
  | _ => False
def s_getfo (cs : List (Nat × Nat)) (nx : Nat) : sem_ := fun L st h _ k => match st with
  | .ref a :: r => (gf cs h a = some .null ∧ k nx L (.null :: r) h) ∨ ∃ b, gf cs h a = some (.ref b) ∧ k nx L (.ref b :: r) h
  | _ => False
theorem o_fi {cs : List (Nat × Nat)} {nx : Nat} (h : SemOK G m pc (s_getf cs nx)) : SemOK G m pc (s_getfi cs nx) := h.mono fun L st h Q k hs => by
  unfold s_getfi at hs
  unfold s_getf
  split at hs
  · obtain ⟨x, e, hs⟩ := hs
    exact ⟨_, e, hs⟩
  · exact hs.elim
theorem o_fr {cs : List (Nat × Nat)} {nx : Nat} (h : SemOK G m pc (s_getf cs nx)) : SemOK G m pc (s_getfr cs nx) := h.mono fun L st h Q k hs => by
  unfold s_getfr at hs
  unfold s_getf
  split at hs
  · obtain ⟨x, e, hs⟩ := hs
    exact ⟨_, e, hs⟩
  · exact hs.elim
theorem o_fo {cs : List (Nat × Nat)} {nx : Nat} (h : SemOK G m pc (s_getf cs nx)) : SemOK G m pc (s_getfo cs nx) := h.mono fun L st h Q k hs => by
  unfold s_getfo at hs
  unfold s_getf
  split at hs
  · rcases hs with ⟨e, hs⟩ | ⟨x, e, hs⟩
    · exact ⟨_, e, hs⟩
    · exact ⟨_, e, hs⟩
  · exact hs.elim
/-- the heap behind a store of a field -/
theorem put_core {cs : List (Nat × Nat)} {decl n d : String} {fin : Bool} {nx : Nat} (hf : fdOf cs decl n d fin) {a : Nat} {v : Value} {L : L_} {r : List Value} {h h1 : hp_} {Q : o_ → hp_ → Prop}
    (hS : ∀ {p : Program} {e : Env} {R : Room} {s : State} {mi : MethodId} {args : Array Value} {below : List Frame} {meth : Method} {c : Code} {H : Heap} {locs : List Loc} {cells slots : Nat} {ls : Array Slot} {Qf : State → Prop} {ws : va_W} {q0 ci : Nat} {fs : List Value} {C : String} {T : u_T} {N k : Nat} {ty0 : Nat → FieldType},
      Cx G m p R s mi args meth c → va_P (gD G) cls_ ws H → va_D (gA G) ws → va_S (gA G) H H locs → ws[q0]? = some (a, .inr (ci, fs)) → cls_[ci]? = some (C, T, N) → (∀ w ∈ u_ws C T N, w ∈ lw_all) → (∀ k, k < N → parseFieldDescriptor (T k).2.2.1 = some (ty0 k)) → (∀ a, a < N → ∀ b, b < N → a ≠ b → (T a).2.1 ≠ (T b).2.1) → k < N → T k = (decl, n, d, fin) → k < fs.length →
      (∀ (H1 : Heap) (locs1 : List Loc), va_P (gD G) cls_ (ws.set q0 (a, .inr (ci, fs.set k v))) H1 → va_S (gA G) H H1 locs1 → W p (gl G) e R s mi args below meth c H1 locs1 cells slots Qf (F0 mi nx ls r)) → W p (gl G) e R s mi args below meth c H locs cells slots Qf (F0 mi pc ls (v :: .ref a :: r)))
    (hp : pf cs h a v = some h1) (k : Go_ G m nx L r h1 Q) : Go_ G m pc L (v :: .ref a :: r) h Q := by
  obtain ⟨c, fs, j, hg, hj, hlen, rfl⟩ := of_pf hp
  obtain ⟨q, hq1, hq2, hq3⟩ := hf _ (lookup_mem hj)
  obtain ⟨hin, ⟨ty0, hty⟩, hnm, -⟩ := cls_ok c q hq1
  refine Go_.write (fun hw => hwf_set hw _ (hlt hw hg)) rfl rfl (fun cx _ rp hl he kk => ?_) k
  obtain ⟨q0, hq0⟩ := wsOf_get rp hg (fun f => by simp)
  refine hS (C := q.1) (T := q.2.1) (N := q.2.2) cx rp.ws rp.wd (S_rf hl) hq0 hq1 hin hty hnm hq2 hq3 hlen fun H1 locs1 hP1 hS1 => W_sz fun hz => ?_
  exact kk H1 locs1 (rp.back (e' := eO c (fs.set j v)) hq0 hP1 hS1 (by rw [rp.1, he]; exact hz)) hS1.2.2
end OK4
